/-! LAYER 4n: pure: texts: tokens, deals, statements -/
def isSp (c : Nat) : Bool := decide (c = 32 ∨ c = 10)
def isLt (c : Nat) : Bool := decide (97 ≤ c ∧ c ≤ 122)
def isDg (c : Nat) : Bool := decide (48 ≤ c ∧ c ≤ 57)
def runE (P : Nat → Bool) (B : Nat → Nat) : Nat → Nat → Nat
  | 0, p => p
  | f + 1, p => if P (B p) = true then runE P B f (p + 1) else p
/-- a token: where it begins, where it ends, its kind: 0 the end, 1 a word, 2 digits, 3 a sign -/
abbrev Tk : Type := Nat × Nat × Nat
def tokQ (B : Nat → Nat) (n q : Nat) : Tk := if n ≤ q then (q, q, 0) else if isLt (B q) = true then (q, runE isLt B (n - q) q, 1) else if isDg (B q) = true then (q, runE isDg B (n - q) q, 2) else (q, q + 1, 3)
def tokA (B : Nat → Nat) (n p : Nat) : Tk := tokQ B n (runE isSp B (n - p) p)
def wd (B : Nat → Nat) (q e : Nat) : List Nat := (List.range (e - q)).map fun i => B (q + i)
def decN (l : List Nat) : Nat := l.foldl (fun v b => 10 * v + (b - 48)) 0
def pk256 (l : List Nat) : Nat := l.foldl (fun v b => v * 256 + b) 0
def pk27 (l : List Nat) : Nat := l.foldl (fun v b => v * 27 + (b - 96)) 0
/-- a reader: the place of a fault, or where it reads, how many leaves, choices, which events -/
abbrev PS : Type := Nat × Nat × Nat × Nat
abbrev ST : Type := Nat ⊕ PS
section PRS
variable (B : Nat → Nat) (n : Nat)
def oTk (s : PS) : Tk := tokA B n s.1
def oPass : ST → ST
  | .inl q => .inl q
  | .inr s => .inr ((oTk B n s).2.1, s.2)
def oErr : ST → ST
  | .inl q => .inl q
  | .inr s => .inl (oTk B n s).1
def oWd (s : PS) : Option (List Nat) := if (oTk B n s).2.2 = 1 then some (wd B (oTk B n s).1 (oTk B n s).2.1) else none
def oIsW (w : List Nat) : ST → Bool
  | .inl _ => false
  | .inr s => decide (oWd B n s = some w)
def oIsS (c : Nat) : ST → Bool
  | .inl _ => false
  | .inr s => decide ((oTk B n s).2.2 = 3 ∧ B (oTk B n s).1 = c)
def oEnd : ST → Bool
  | .inl _ => false
  | .inr s => decide ((oTk B n s).2.2 = 0)
def oTakeW (w : List Nat) (st : ST) : Bool × ST := if oIsW B n w st = true then (true, oPass B n st) else (false, st)
def oTakeS (c : Nat) (st : ST) : Bool × ST := if oIsS B n c st = true then (true, oPass B n st) else (false, st)
def oNeedW (w : List Nat) (st : ST) : ST := if oIsW B n w st = true then oPass B n st else oErr B n st
def oNeedS (c : Nat) (st : ST) : ST := if oIsS B n c st = true then oPass B n st else oErr B n st
def oDec (s : PS) : Option Nat := if (oTk B n s).2.2 = 2 ∧ (oTk B n s).2.1 - (oTk B n s).1 ≤ 4 then some (decN (wd B (oTk B n s).1 (oTk B n s).2.1)) else none
def oNum (lo hi : Nat) : ST → Nat × ST
  | .inl q => (lo, .inl q)
  | .inr s => match oDec B n s with
    | some v => if lo ≤ v ∧ v ≤ hi then (v, oPass B n (.inr s)) else (lo, oErr B n (.inr s))
    | none => (lo, oErr B n (.inr s))
def nIdx (names : List (List Nat)) (w : List Nat) : Option Nat := names.findIdx? fun x => decide (x = w)
def oIdx (names : List (List Nat)) (s : PS) : Option Nat := (oWd B n s).bind (nIdx names)
def oName (names : List (List Nat)) (but : Nat) : ST → Nat × ST
  | .inl q => (0, .inl q)
  | .inr s => match oIdx B n names s with
    | some k => if k = but then (0, oErr B n (.inr s)) else (k, oPass B n (.inr s))
    | none => (0, oErr B n (.inr s))
def nmHand : List (List Nat) := [[97], [98], [99], [100], [101], [102], [103], [104]]
def nmThing : List (List Nat) := [[99, 111, 105, 110], [109, 117, 108, 101], [99, 108, 111, 116, 104], [104, 111, 117, 115, 101], [119, 111, 114, 107], [103, 114, 97, 105, 110]]
def nmEvent : List (List Nat) := [[100, 105, 101, 115], [114, 97, 105, 110], [119, 97, 114], [100, 101, 97, 114], [102, 108, 111, 111, 100]]
def nmForm : List (List Nat) := [[112, 97, 115, 115], [103, 105, 102, 116], [115, 97, 108, 101], [104, 105, 114, 101], [97, 110, 121]]
def wAfter : List Nat := [97, 102, 116, 101, 114]
def wTimes : List Nat := [116, 105, 109, 101, 115]
def wIf : List Nat := [105, 102]
def wElse : List Nat := [101, 108, 115, 101]
def wChoice : List Nat := [99, 104, 111, 105, 99, 101]
def wOr : List Nat := [111, 114]
def wFor : List Nat := [102, 111, 114]
def wAt : List Nat := [97, 116]
def wPaid : List Nat := [112, 97, 105, 100]
def wBack : List Nat := [98, 97, 99, 107]
def wBar : List Nat := [98, 97, 114]
def wOf : List Nat := [111, 102]
def wThen : List Nat := [116, 104, 101, 110]
def wSame : List Nat := [115, 97, 109, 101]
def wMore : List Nat := [109, 111, 114, 101]
def wWithin : List Nat := [119, 105, 116, 104, 105, 110]
def l0 : Lf := (0, 0, 0, 0, 0, 0, 0, 0)
def qLeaf1 (st : ST) : (Nat × Nat × Nat × Nat) × ST :=
  let a := oName B n nmHand 99 st
  let b := oName B n nmHand a.1 a.2
  let t := oName B n nmThing 99 b.2
  let m := oNum B n 0 9999 t.2
  ((a.1, b.1, t.1, m.1), m.2)
def qLeaf2 (k : Nat) (st : ST) : Nat × ST := if k = 2 ∨ k = 3 then oNum B n 0 9999 (oNeedW B n wFor st) else (0, st)
def qLeaf3 (k : Nat) (at0 : Nat) (st : ST) : Nat × ST := if k = 3 then oNum B n at0 399 (oNeedW B n wBack st) else if k = 2 ∧ oIsW B n wPaid st = true then oNum B n at0 399 (oPass B n st) else (at0, st)
def pLeaf (k : Nat) : ST → Lf × ST
  | .inl q => (l0, .inl q)
  | .inr s => if s.2.1 = 12 then (l0, oErr B n (.inr s)) else
    let x := qLeaf1 B n (oPass B n (.inr (s.1, s.2.1 + 1, s.2.2)))
    let c := qLeaf2 B n k x.2
    let d := oNum B n 0 399 (oNeedW B n wAt c.2)
    let u := qLeaf3 B n k d.1 d.2
    ((k, x.1.1, x.1.2.1, x.1.2.2.1, x.1.2.2.2, d.1, c.1, u.1), u.2)
def pInner (rec : Nat → ST → Fo × ST) (deep : Nat) (st : ST) : Fo × ST :=
  if oIsS B n 123 st = true ∧ deep ≠ 6 then ((rec (deep + 1) (oPass B n st)).1, oNeedS B n 125 (rec (deep + 1) (oPass B n st)).2) else (fNil, oErr B n st)
def pElse (rec : Nat → ST → Fo × ST) (w : List Nat) (deep : Nat) (st : ST) : Fo × ST :=
  if oIsW B n w st = true then pInner B n rec deep (oPass B n st) else (fNil, st)
def oEv (e : Nat) : ST → ST
  | .inl q => .inl q
  | .inr s => .inr (s.1, s.2.1, s.2.2.1, s.2.2.2 ||| 1 <<< e)
def oCh : ST → ST
  | .inl q => .inl q
  | .inr s => .inr (s.1, s.2.1, s.2.2.1 + 1, s.2.2.2)
def nmKind : List (List Nat) := [[112, 97, 115, 115], [103, 105, 102, 116], [115, 97, 108, 101], [104, 105, 114, 101], wAfter, wTimes, wIf, wChoice]
def pPart (rec : Nat → ST → Fo × ST) (deep : Nat) : ST → Fo × ST
  | .inl q => (fNil, .inl q)
  | .inr s => match oIdx B n nmKind s with
    | none => (fNil, oErr B n (.inr s))
    | some k =>
      if k < 4 then (fLf (pLeaf B n k (.inr s)).1 fNil, (pLeaf B n k (.inr s)).2)
      else if k < 6 then
        let v := oNum B n 0 (if k = 4 then 399 else 9) (oPass B n (.inr s))
        let r := pInner B n rec deep v.2
        (fGr k v.1 r.1 fNil fNil, r.2)
      else if k = 6 then
        let v := oName B n nmEvent 99 (oPass B n (.inr s))
        let r := pInner B n rec deep (oEv v.1 v.2)
        let u := pElse B n rec wElse deep r.2
        (fGr 6 v.1 r.1 u.1 fNil, u.2)
      else if s.2.2.1 = 3 then (fNil, oErr B n (.inr s)) else
        let v := oName B n nmHand 99 (oCh (oPass B n (.inr s)))
        let r := pInner B n rec deep v.2
        let u := pElse B n rec wOr deep r.2
        (fGr 7 s.2.2.1 r.1 u.1 fNil, u.2)
def pAll : Nat → Nat → ST → Fo × ST
  | 0, _, st => (fNil, st)
  | f + 1, deep, st =>
    let p := pPart B n (pAll f) deep st
    if oIsS B n 44 p.2 = true then (fApp p.1 (pAll f deep (oPass B n p.2)).1, (pAll f deep (oPass B n p.2)).2) else p
/-- a whole deal -/
def pDeal : Fo × ST :=
  let r := pAll B n (n + 1) 0 (.inr (0, 0, 0, 0))
  (r.1, if oEnd B n r.2 = true then r.2 else oErr B n r.2)
/-- a statement: form, thing (99: any), of the second one (form 99: none), back, same, more, days (10000: all) -/
abbrev Rl : Type := (Nat × Nat) × (Nat × Nat) × (Bool × Bool × Bool) × Nat
def qForm (st : ST) : Nat × ST := oName B n nmForm 99 st
def qOf (st : ST) : Nat × ST := if oIsW B n wOf st = true then oName B n nmThing 99 (oPass B n st) else (99, st)
def qAsk : Nat → (Bool × Bool × Bool) → ST → (Bool × Bool × Bool) × ST
  | 0, q, st => (q, st)
  | f + 1, q, st => if oIsW B n wBack st = true then qAsk f (true, q.2.1, q.2.2) (oPass B n st) else if oIsW B n wSame st = true then qAsk f (q.1, true, q.2.2) (oPass B n st) else if oIsW B n wMore st = true then qAsk f (q.1, q.2.1, true) (oPass B n st) else (q, st)
def qThen (st : ST) : ((Nat × Nat) × (Bool × Bool × Bool) × Nat) × ST :=
  if oIsW B n wThen st = true then
    let f := qForm B n (oPass B n st)
    let t := qOf B n f.2
    let a := qAsk B n (n + 1) (false, false, false) t.2
    let w := if oIsW B n wWithin a.2 = true then oNum B n 0 9999 (oPass B n a.2) else (10000, a.2)
    (((f.1, t.1), a.1, w.1), w.2)
  else (((99, 99), (false, false, false), 10000), st)
def pRule (st : ST) : Rl × ST :=
  let f := qForm B n (oNeedW B n wBar st)
  let t := qOf B n f.2
  let u := qThen B n t.2
  (((f.1, t.1), u.1), oNeedS B n 59 u.2)
def pRules (most : Nat) : Nat → Nat → ST → List Rl × ST
  | 0, _, st => ([], st)
  | f + 1, many, st => match st with
    | .inl q => ([], .inl q)
    | .inr s => if (oTk B n s).2.2 = 0 then ([], .inr s) else if many = most then ([], oErr B n (.inr s)) else
      ((pRule B n (.inr s)).1 :: (pRules most f (many + 1) (pRule B n (.inr s)).2).1, (pRules most f (many + 1) (pRule B n (.inr s)).2).2)
end PRS
