/-! SPEC: what component and reference do, over one mathematical state -/
section ZS
/-- a step: kind, a, b -/
abbrev zSt : Type := Int32 × Int32 × Int32
/-- a class: its parent, its bodies by method -/
abbrev zCl : Type := Option Nat × (Nat → List zSt)
/-- a pattern: kind, a, b -/
abbrev zPt : Type := Int32 × Int32 × Int32
/-- advice: aspect, kind, pattern, more, times, is on -/
abbrev zAd : Type := Nat × Int32 × Nat × Int32 × Nat × Bool
/-- classes, patterns, advices, what is ahead of what -/
abbrev zS : Type := List zCl × List zPt × List zAd × (Nat → Nat → Bool)
def zn (σ : zS) : Nat := σ.1.length
def zpar (σ : zS) (k : Nat) : Option Nat := (σ.1[k]?).bind (fun c => c.1)
def zbody (σ : zS) (k m : Nat) : List zSt := match σ.1[k]? with
  | some c => c.2 m
  | none => []
def zpat (σ : zS) (n : Nat) : zPt := σ.2.1.getD n (0, 0, 0)
def zadv (σ : zS) (n : Nat) : zAd := σ.2.2.1.getD n (0, 0, 0, 0, 0, false)
def zAt (x : Int32) : Nat := x.toNatClampNeg
-- ===== classes =====
def zancF (σ : zS) : Nat → Nat → List Nat
  | 0, _ => []
  | f + 1, k => k :: match zpar σ k with
    | none => []
    | some p => zancF σ f p
/-- a class and those it is below -/
def zanc (σ : zS) (k : Nat) : List Nat := zancF σ (k + 1) k
def zbelow (σ : zS) (k : Nat) (t : Int32) : Bool := (zanc σ k).any (fun j => decide (nI j = t))
def zfind (σ : zS) (m k : Nat) : Option Nat := (zanc σ k).find? (fun j => !(zbody σ j m).isEmpty)
-- ===== places: kind, name, the class that is made, the step =====
abbrev zSp : Type := Int32 × Int32 × Option Nat × Int32
def zplaces (st : zSt) : Nat := if st.1 = 109 then 2 else if st.1 = 99 ∨ st.1 = 103 ∨ st.1 = 115 ∨ st.1 = 104 then 1 else 0
def zsp1 (i : Nat) (st : zSt) : List zSp := if st.1 = 109 then [(109, st.2.1, some (zAt st.2.1), nI i), (99, st.2.2, some (zAt st.2.1), nI i)] else if st.1 = 99 ∨ st.1 = 103 ∨ st.1 = 115 ∨ st.1 = 104 then [(st.1, st.2.1, none, nI i)] else []
def zsps : Nat → List zSt → List zSp
  | _, [] => []
  | i, st :: r => zsp1 i st ++ zsps (i + 1) r
def zspots (σ : zS) (k m : Nat) : List zSp := if (zbody σ k m).isEmpty then [] else (101, nI m, none, -1) :: zsps 0 (zbody σ k m)
def zspot (σ : zS) (k m p : Nat) : zSp := (zspots σ k m).getD p (0, 0, none, 0)
/-- the classes that the object at a place can have -/
def zposs (σ : zS) (k m : Nat) (sp : zSp) (j : Nat) : Bool := match sp.2.2.1 with
  | some q => decide (j = q)
  | none => decide (zfind σ m j = some k)
-- ===== matches of patterns: 121 yes, 110 no, 109 maybe =====
/-- a place: kind, name, the class it is in, the classes it can have -/
abbrev zPl : Type := Int32 × Int32 × Int32 × (Nat → Bool)
def zpl (σ : zS) (k m p : Nat) : zPl := ((zspot σ k m p).1, (zspot σ k m p).2.1, nI k, zposs σ k m (zspot σ k m p))
def zsure (b : Bool) : Int32 := if b = true then 121 else 110
def zatT (σ : zS) (q : zPl) (a : Int32) : Int32 :=
  if (List.range (zn σ)).all (fun j => !(q.2.2.2 j && zbelow σ j a)) = true then 110 else if (List.range (zn σ)).all (fun j => !(q.2.2.2 j && !zbelow σ j a)) = true then 121 else 109
def zatB (σ : zS) (q : zPl) (r : Nat → Int32) (p : zPt) : Int32 :=
  if p.1 = 110 then (if q.1 = 104 then (if q.2.1 < p.2.1 then 110 else 109) else zsure (decide (q.2.1 = p.2.1)))
  else if p.1 = 116 then zatT σ q p.2.1
  else if p.1 = 119 then zsure (decide (q.2.2.1 = p.2.1))
  else if p.1 = 118 then 109
  else if p.1 = 102 then (if r (zAt p.2.1) = 121 then 121 else 109)
  else if p.1 = 33 then (if r (zAt p.2.1) = 109 then 109 else zsure (decide (r (zAt p.2.1) = 110)))
  else if p.1 = 38 then (if r (zAt p.2.1) = 110 ∨ r (zAt p.2.2) = 110 then 110 else if r (zAt p.2.1) = r (zAt p.2.2) then r (zAt p.2.1) else 109)
  else if p.1 = 124 then (if r (zAt p.2.1) = 121 ∨ r (zAt p.2.2) = 121 then 121 else if r (zAt p.2.1) = r (zAt p.2.2) then r (zAt p.2.1) else 109)
  else zsure (decide (q.1 = p.1))
def zatF (σ : zS) (q : zPl) : Nat → Nat → Int32
  | 0, _ => 109
  | f + 1, n => zatB σ q (zatF σ q f) (zpat σ n)
def zat (σ : zS) (q : zPl) (n : Nat) : Int32 := zatF σ q (n + 1) n
-- ===== whether patterns hold at a point =====
/-- a point: kind, name, the object's class, the class it is in, value -/
abbrev zIn : Type := Int32 × Int32 × Nat × Int32 × Int32
def zany (f : List zIn → Bool) : List zIn → Bool
  | [] => false
  | i :: l => f (i :: l) || zany f l
def zholdB (σ : zS) (r : Nat → List zIn → Bool) (p : zPt) (i : zIn) (l : List zIn) : Bool :=
  if p.1 = 110 then decide (i.2.1 = p.2.1)
  else if p.1 = 116 then zbelow σ i.2.2.1 p.2.1
  else if p.1 = 119 then decide (i.2.2.2.1 = p.2.1)
  else if p.1 = 118 then decide (p.2.1 < i.2.2.2.2)
  else if p.1 = 102 then zany (r (zAt p.2.1)) (i :: l)
  else if p.1 = 33 then !r (zAt p.2.1) (i :: l)
  else if p.1 = 38 then r (zAt p.2.1) (i :: l) && r (zAt p.2.2) (i :: l)
  else if p.1 = 124 then r (zAt p.2.1) (i :: l) || r (zAt p.2.2) (i :: l)
  else decide (i.1 = p.1)
def zholdF (σ : zS) : Nat → Nat → List zIn → Bool
  | 0, _, _ => false
  | _ + 1, _, [] => false
  | f + 1, n, i :: l => zholdB σ (zholdF σ f) (zpat σ n) i l
def zhold (σ : zS) (n : Nat) (l : List zIn) : Bool := zholdF σ (n + 1) n l
-- ===== the order of aspects =====
def zfree (σ : zS) (taken : List Nat) (j : Nat) : Bool := !taken.contains j && (List.range 4).all (fun k => taken.contains k || !σ.2.2.2 k j)
def znext (σ : zS) (taken : List Nat) : Option Nat := (List.range 4).find? (zfree σ taken)
def zordF (σ : zS) : Nat → List Nat → List Nat
  | 0, taken => taken
  | f + 1, taken => match znext σ taken with
    | none => taken
    | some j => zordF σ f (taken ++ [j])
def zord (σ : zS) : List Nat := zordF σ 4 []
def zring (σ : zS) : Bool := decide ((zord σ).length < 4)
/-- the advices of an aspect, from the i-th on -/
def zofA (j : Nat) : Nat → List zAd → List Nat
  | _, [] => []
  | i, a :: r => if a.1 = j then i :: zofA j (i + 1) r else zofA j (i + 1) r
/-- the advices in their order -/
def zoa (σ : zS) : List Nat := (zord σ).flatMap (fun j => zofA j 0 σ.2.2.1)
-- ===== runs =====
/-- what advice did: kind, value, advice -/
abbrev zAc : Type := Int32 × Int32 × Nat
/-- the state of a run: points, asked, trace, the object's fields; counted besides: acts, exceptions, objects made; places kept -/
abbrev zR : Type := Nat × Nat × List zAc × (Nat → Int32) × (Nat × Nat × Nat) × (Nat → Nat → Nat)
/-- an answer, an exception of the language, or given up -/
abbrev zX : Type := Int32 ⊕ Option Int32
abbrev zM : Type := zR → zX × zR
def zRp (s : zR) : zR := (s.1 + 1, s.2)
def zRq (n : Nat) (s : zR) : zR := (s.1, s.2.1 + n, s.2.2)
def zRt (a : zAc) (s : zR) : zR := (s.1, s.2.1, s.2.2.1 ++ [a], s.2.2.2)
def zRF (f : Nat → Int32) (s : zR) : zR := (s.1, s.2.1, s.2.2.1, f, s.2.2.2.2)
def zRa (s : zR) : zR := (s.1, s.2.1, s.2.2.1, s.2.2.2.1, (s.2.2.2.2.1.1 + 1, s.2.2.2.2.1.2), s.2.2.2.2.2)
def zRe (s : zR) : zR := (s.1, s.2.1, s.2.2.1, s.2.2.2.1, (s.2.2.2.2.1.1, s.2.2.2.2.1.2.1 + 1, s.2.2.2.2.1.2.2), s.2.2.2.2.2)
def zRm (s : zR) : zR := (s.1, s.2.1, s.2.2.1, s.2.2.2.1, (s.2.2.2.2.1.1, s.2.2.2.2.1.2.1, s.2.2.2.2.1.2.2 + 1), s.2.2.2.2.2)
def zkeep (f : Nat → Nat → Nat) (k m n : Nat) : Nat → Nat → Nat := fun a b => if a = k ∧ b = m then max (f a b) n else f a b
/-- the places of a body kept up to the p-th, in a woven run -/
def zRk (wov : Bool) (k m p : Nat) (s : zR) : zR := (s.1, s.2.1, s.2.2.1, s.2.2.2.1, s.2.2.2.2.1, if wov = true then zkeep s.2.2.2.2.2 k m (p + 1) else s.2.2.2.2.2)
abbrev zup : zX := .inr none
abbrev zraise (n : Int32) : zX := .inr (some n)
/-- advice writes its trace -/
def zadd (σ : zS) (n : Nat) (v : Int32) (s : zR) : Option zR := if s.2.2.1.length = 400 then none else some (zRt ((zadv σ n).2.1, v, n) s)
def zrep (g : Int32 → zM) (more : Int32) : Nat → Int32 → zM
  | 0, v => fun s => (.inl v, s)
  | t + 1, v => fun s => match g (v + more) s with
    | (.inl v', s') => zrep g more t v' s'
    | e => e
/-- a point's advices, one after another, and then what it is -/
def zgo (σ : zS) (act : Int32 → zM) : List Nat → Int32 → zM
  | [], v => fun s => act v (zRa s)
  | n :: r, v => fun s =>
    if (zadv σ n).2.1 = 114 then match zadd σ n v s with
      | none => (zup, zRe s)
      | some s1 => zrep (zgo σ act r) (zadv σ n).2.2.2.1 (zadv σ n).2.2.2.2.1 v s1
    else if (zadv σ n).2.1 = 98 then match zadd σ n v s with
      | none => (zup, zRe s)
      | some s1 => zgo σ act r v s1
    else match zgo σ act r v s with
      | (.inl v', s') => if (zadv σ n).2.1 = 120 then (.inl v', s') else match zadd σ n v' s' with
        | none => (zup, zRe s')
        | some s1 => (.inl v', s1)
      | (.inr (some x), s') => if (zadv σ n).2.1 = 97 then (zraise x, s') else match zadd σ n x s' with
        | none => (zup, zRe s')
        | some s1 => (zraise x, s1)
      | (.inr none, s') => (zup, s')
/-- what a place says of advice in a woven run: taken, not taken, or ask -/
def ztold (σ : zS) (wov : Bool) (pl : Option (Nat × Nat × Nat)) (n : Nat) : Option Bool := match wov, pl with
  | true, some (k, m, p) => if zat σ (zpl σ k m p) (zadv σ n).2.2.1 = 109 then none else some (decide (zat σ (zpl σ k m p) (zadv σ n).2.2.1 = 121))
  | _, _ => none
def ztakes (σ : zS) (wov : Bool) (pl : Option (Nat × Nat × Nat)) (l : List zIn) (n : Nat) : Bool := (zadv σ n).2.2.2.2.2 && (match ztold σ wov pl n with
  | some b => b
  | none => zhold σ (zadv σ n).2.2.1 l)
def zasks (σ : zS) (wov : Bool) (pl : Option (Nat × Nat × Nat)) (n : Nat) : Bool := (zadv σ n).2.2.2.2.2 && (ztold σ wov pl n).isNone
/-- a point's kind, name, the object's class, where it stands -/
abbrev zPi : Type := Int32 × Int32 × Nat × Option (Nat × Nat × Nat)
def zinfo (q : zPi) (v : Int32) : zIn := (q.1, q.2.1, q.2.2.1, (match q.2.2.2 with | some (k, _, _) => nI k | none => -1), v)
/-- points, as steps make them -/
abbrev zPF : Type := zPi → Int32 → zM
def zhandler (body : List zSt) (n : Int32) : Nat → Option Nat
  | 0 => none
  | i + 1 => match body[i]? with
    | some st => if st.1 = 104 ∧ n ≤ st.2.1 then some i else zhandler body n i
    | none => zhandler body n i
/-- the first place of the i-th step -/
def zplace (body : List zSt) (i : Nat) : Nat := 1 + ((body.take i).map zplaces).sum
def zhandled (σ : zS) (wov : Bool) (pt : zPF) (ty k m i : Nat) (n : Int32) : zM := fun s => match zhandler (zbody σ k m) n i with
  | none => (zraise n, s)
  | some j => pt (104, n, ty, some (k, m, zplace (zbody σ k m) j)) 0 (zRk wov k m (zplace (zbody σ k m) j) s)
def zdone (wov : Bool) (pt : zPF) (ty k m p : Nat) (st : zSt) (v : Int32) : zM := fun s0 =>
  let s := if 0 < zplaces st then zRk wov k m p s0 else s0
  if st.1 = 110 then (.inl (v + st.2.1), s)
  else if st.1 = 99 then pt (99, st.2.1, ty, some (k, m, p)) v s
  else if st.1 = 109 then match pt (109, st.2.1, zAt st.2.1, some (k, m, p)) v (zRF (fun _ => 0) (zRm s)) with
    | (.inl v1, s1) => match pt (99, st.2.2, zAt st.2.1, some (k, m, p + 1)) v1 (zRk wov k m (p + 1) s1) with
      | (x, s2) => (x, zRF s.2.2.2.1 s2)
    | (x, s1) => (x, zRF s.2.2.2.1 s1)
  else if st.1 = 103 ∨ st.1 = 115 then pt (st.1, st.2.1, ty, some (k, m, p)) v s
  else if st.1 = 116 then (if st.2.2 < v then (zraise st.2.1, zRe s) else (.inl v, s))
  else (.inl v, s)
def zstepsF (σ : zS) (wov : Bool) (pt : zPF) (ty k m : Nat) : Nat → List zSt → Int32 → zM
  | _, [], v => fun s => (.inl v, s)
  | i, st :: r, v => fun s => match zdone wov pt ty k m (zplace (zbody σ k m) i) st v s with
    | (.inl v', s') => zstepsF σ wov pt ty k m (i + 1) r v' s'
    | (.inr (some n), s') => (match zhandled σ wov pt ty k m i n s' with
      | (.inl v', s'') => zstepsF σ wov pt ty k m (i + 1) r v' s''
      | e => e)
    | (.inr none, s') => (zup, s')
/-- what a point is, done -/
def zact (σ : zS) (wov : Bool) (pt : zPF) (q : zPi) (v : Int32) : zM := fun s =>
  if q.1 = 99 then match zfind σ (zAt q.2.1) q.2.2.1 with
    | none => (zraise 4, zRe s)
    | some k => pt (101, q.2.1, q.2.2.1, some (k, zAt q.2.1, 0)) v (zRk wov k (zAt q.2.1) 0 s)
  else if q.1 = 101 then match q.2.2.2 with
    | some (k, m, _) => zstepsF σ wov pt q.2.2.1 k m 0 (zbody σ k m) v s
    | none => (.inl v, s)
  else if q.1 = 103 then (.inl (v + s.2.2.2.1 (zAt q.2.1)), s)
  else if q.1 = 115 then (.inl v, zRF (upd s.2.2.2.1 (zAt q.2.1) v) s)
  else (.inl v, s)
/-- a point where d more can be open -/
def zpoint (σ : zS) (wov : Bool) : Nat → List zIn → zPF
  | 0, _, _, _ => fun s => (zup, zRe s)
  | d + 1, l, q, v => fun s => if s.1 = 120 then (zup, zRe s) else
    zgo σ (zact σ wov (zpoint σ wov d (zinfo q v :: l)) q) ((zoa σ).filter (ztakes σ wov q.2.2.2 (zinfo q v :: l))) v
      (zRq ((zoa σ).filter (zasks σ wov q.2.2.2)).length (zRp s))
/-- a run's end: how (114 returned, 120 thrown, 108 given up), result, points, asked, trace -/
abbrev zL9 : Type := Int32 × Int32 × Nat × Nat × List zAc
def zend (q : zX × zR) : zL9 := ((match q.1 with | .inl _ => 114 | .inr (some _) => 120 | .inr none => 108), (match q.1 with | .inl v => v | .inr (some n) => n | .inr none => 0), q.2.1, q.2.2.1, q.2.2.2.1)
def zr0 (f : Nat → Nat → Nat) : zR := (0, 0, [], fun _ => 0, (0, 0, 0), f)
def zrun (σ : zS) (wov : Bool) (k m : Nat) (v : Int32) (f : Nat → Nat → Nat) : zX × zR := zpoint σ wov 20 [] (99, nI m, k, none) v (zr0 f)
-- ===== what is kept true =====
def zstOk (n : Nat) (st : zSt) : Prop :=
  (st.1 = 110 ∨ st.1 = 116 ∨ st.1 = 104) ∨ (st.1 = 99 ∧ ∃ m, m < 6 ∧ st.2.1 = nI m) ∨ (st.1 = 109 ∧ (∃ q, q < n ∧ st.2.1 = nI q) ∧ ∃ m, m < 6 ∧ st.2.2 = nI m) ∨ ((st.1 = 103 ∨ st.1 = 115) ∧ ∃ j, j < 4 ∧ st.2.1 = nI j)
def zptOk (n : Nat) (p : zPt) : Prop :=
  (p.1 = 110 ∨ p.1 = 116 ∨ p.1 = 119 ∨ p.1 = 118 ∨ p.1 = 99 ∨ p.1 = 101 ∨ p.1 = 103 ∨ p.1 = 115 ∨ p.1 = 104 ∨ p.1 = 109) ∨
  ((p.1 = 102 ∨ p.1 = 33) ∧ ∃ a, a < n ∧ p.2.1 = nI a) ∨ ((p.1 = 38 ∨ p.1 = 124) ∧ (∃ a, a < n ∧ p.2.1 = nI a) ∧ ∃ b, b < n ∧ p.2.2 = nI b)
def zadOk (n : Nat) (a : zAd) : Prop := a.1 < 4 ∧ (a.2.1 = 98 ∨ a.2.1 = 97 ∨ a.2.1 = 120 ∨ a.2.1 = 102 ∨ a.2.1 = 114) ∧ a.2.2.1 < n ∧ a.2.2.2.2.1 ≤ 2
def zwf (σ : zS) : Prop :=
  zn σ ≤ 6 ∧ (∀ (k : Nat) (c : zCl), σ.1[k]? = some c → (∀ p, c.1 = some p → p < k) ∧ ∀ m, m < 6 → (c.2 m).length ≤ 8 ∧ ∀ st ∈ c.2 m, zstOk (zn σ) st) ∧
  σ.2.1.length ≤ 24 ∧ (∀ (n : Nat) (p : zPt), σ.2.1[n]? = some p → zptOk n p) ∧
  σ.2.2.1.length ≤ 12 ∧ (∀ a ∈ σ.2.2.1, zadOk σ.2.1.length a) ∧
  ∀ j, σ.2.2.2 j j = false
end ZS
