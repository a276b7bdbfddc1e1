/-! PURE LAW: the mathematical state and what each act does to it -/
set_option maxRecDepth 100000
set_option maxHeartbeats 1000000
/-- block: repeat, half drop, wear; ink: colour, shade, grams; roll: block, batch, colour, shade, length, used, given back; drop: roll, begin, shade, waste; room: height, needed, drops, waste, stripped -/
abbrev WB : Type := Nat × Bool × Nat
abbrev WI : Type := Nat × Nat × Nat
abbrev WR : Type := Nat × Nat × Nat × Nat × Nat × Nat × Bool
abbrev WD : Type := Nat × Nat × Nat × Nat
abbrev WM : Type := Nat × Nat × List WD × Nat × Nat
abbrev WS : Type := List WB × List WI × List WR × List WM
def wsB (S : WS) : List WB := S.1
def wsI (S : WS) : List WI := S.2.1
def wsR (S : WS) : List WR := S.2.2.1
def wsM (S : WS) : List WM := S.2.2.2
def bRep (b : WB) : Nat := b.1
def bHalf (b : WB) : Bool := b.2.1
def bWear (b : WB) : Nat := b.2.2
def iCol (i : WI) : Nat := i.1
def iSha (i : WI) : Nat := i.2.1
def iGra (i : WI) : Nat := i.2.2
def rBlk (r : WR) : Nat := r.1
def rBat (r : WR) : Nat := r.2.1
def rCol (r : WR) : Nat := r.2.2.1
def rSha (r : WR) : Nat := r.2.2.2.1
def rLen (r : WR) : Nat := r.2.2.2.2.1
def rUsed (r : WR) : Nat := r.2.2.2.2.2.1
def rBack (r : WR) : Bool := r.2.2.2.2.2.2
def dRol (d : WD) : Nat := d.1
def dBeg (d : WD) : Nat := d.2.1
def dSha (d : WD) : Nat := d.2.2.1
def dWas (d : WD) : Nat := d.2.2.2
def mHei (m : WM) : Nat := m.1
def mNee (m : WM) : Nat := m.2.1
def mDro (m : WM) : List WD := m.2.2.1
def mWas (m : WM) : Nat := m.2.2.2.1
def mStr (m : WM) : Nat := m.2.2.2.2
def gB (S : WS) (i : Nat) : WB := (wsB S).getD i (0, false, 0)
def gI (S : WS) (i : Nat) : WI := (wsI S).getD i (0, 0, 0)
def gR (S : WS) (i : Nat) : WR := (wsR S).getD i (0, 0, 0, 0, 0, 0, false)
def gM (S : WS) (i : Nat) : WM := (wsM S).getD i (0, 0, [], 0, 0)
def gD0 (m : WM) (i : Nat) : WD := (mDro m).getD i (0, 0, 0, 0)
def b01 (b : Bool) : Nat := if b then 1 else 0
/-- an index in range -/
def ixO (x : Int32) (n : Nat) : Option Nat := if 0 ≤ x ∧ x.toNatClampNeg < n then some x.toNatClampNeg else none
/-- what an act answers: a number and the new state; a failure's reason and detail; another exception -/
abbrev WA : Type := (Nat × WS) ⊕ (Nat × Nat) ⊕ Nat
def aOk (v : Nat) (S : WS) : WA := .inl (v, S)
def aFail (r d : Nat) : WA := .inr (.inl (r, d))
def aIAE : WA := .inr (.inr 21)
def aIOB : WA := .inr (.inr 22)
def rLeft (r : WR) : Nat := if rBack r then 0 else rLen r - rUsed r
def apart (a b : Nat) : Nat := if b < a then a - b else b - a
/-- where the drop n of a room must begin -/
def wBegin (S : WS) (m : WM) (n : Nat) : Nat :=
  if bHalf (gB S (rBlk (gR S (dRol (gD0 m 0))))) = true ∧ n % 2 = 1 then (dBeg (gD0 m 0) + bRep (gB S (rBlk (gR S (dRol (gD0 m 0))))) / 2) % bRep (gB S (rBlk (gR S (dRol (gD0 m 0))))) else dBeg (gD0 m 0)
/-- waste that a roll's next drop costs in a room -/
def wWaste (S : WS) (m : WM) (r : WR) : Nat :=
  if mDro m = [] then 0 else (wBegin S m (mDro m).length + bRep (gB S (rBlk r)) - rUsed r % bRep (gB S (rBlk r))) % bRep (gB S (rBlk r))
/-- the reason against the roll ri in a room, and its detail; reason 0: it can be hung -/
def wReason (S : WS) (m : WM) (ri : Nat) : Nat × Nat :=
  if (mDro m).length = mNee m then (4, mNee m)
  else if rBack (gR S ri) = true then (5, ri)
  else if mDro m ≠ [] ∧ rBlk (gR S (dRol (gD0 m 0))) ≠ rBlk (gR S ri) then (6, rBlk (gR S (dRol (gD0 m 0))))
  else if mDro m ≠ [] ∧ rCol (gR S (dRol (gD0 m 0))) ≠ rCol (gR S ri) then (7, rCol (gR S (dRol (gD0 m 0))))
  else if mDro m ≠ [] ∧ 1 < apart (dSha (gD0 m ((mDro m).length - 1))) (rSha (gR S ri)) then (8, apart (dSha (gD0 m ((mDro m).length - 1))) (rSha (gR S ri)))
  else if rLeft (gR S ri) < wWaste S m (gR S ri) + mHei m then (9, wWaste S m (gR S ri) + mHei m - rLeft (gR S ri))
  else (0, 0)
/-- the roll ri is hung in the room mi -/
def wHang (S : WS) (mi ri : Nat) : WS :=
  (wsB S, wsI S, (wsR S).set ri (rBlk (gR S ri), rBat (gR S ri), rCol (gR S ri), rSha (gR S ri), rLen (gR S ri), rUsed (gR S ri) + (wWaste S (gM S mi) (gR S ri) + mHei (gM S mi)), rBack (gR S ri)),
   (wsM S).set mi (mHei (gM S mi), mNee (gM S mi), mDro (gM S mi) ++ [(ri, (rUsed (gR S ri) + wWaste S (gM S mi) (gR S ri)) % bRep (gB S (rBlk (gR S ri))), rSha (gR S ri), wWaste S (gM S mi) (gR S ri))], mWas (gM S mi) + wWaste S (gM S mi) (gR S ri), mStr (gM S mi)))
def wBetter (S : WS) (m : WM) (k j : Nat) : Prop := wWaste S m (gR S k) < wWaste S m (gR S j) ∨ (wWaste S m (gR S k) = wWaste S m (gR S j) ∧ rLeft (gR S k) < rLeft (gR S j))
def wBestGo (S : WS) (m : WM) : Nat → Option Nat
  | 0 => none
  | k + 1 => if (wReason S m k).1 = 0 then (match wBestGo S m k with | none => some k | some j => if wWaste S m (gR S k) < wWaste S m (gR S j) ∨ (wWaste S m (gR S k) = wWaste S m (gR S j) ∧ rLeft (gR S k) < rLeft (gR S j)) then some k else some j) else wBestGo S m k
def wBest (S : WS) (m : WM) : Option Nat := wBestGo S m (wsR S).length
def wFinGo (mi : Nat) : Nat → WS → Nat → Nat × WS
  | 0, S, c => (c, S)
  | n + 1, S, c => match wBest S (gM S mi) with | none => (c, S) | some k => wFinGo mi n (wHang S mi k) (c + 1)
def wSame (mi ri : Nat) : Nat → WS → Nat → Nat × WS
  | 0, S, c => (c, S)
  | n + 1, S, c => if (wReason S (gM S mi) ri).1 = 0 then wSame mi ri n (wHang S mi ri) (c + 1) else (c, S)
def wLatest (col : Nat) : List WI → Nat → Nat → Nat
  | [], _, l => l
  | i :: r, k, l => wLatest col r (k + 1) (if iCol i = col then k else l)
/-! the acts -/
def pBlock (S : WS) (rep : Int32) (half : Bool) : WA :=
  if rep < 10 ∨ 90 < rep then aIAE else if 6 ≤ (wsB S).length then aFail 1 6
  else aOk (wsB S).length (wsB S ++ [(rep.toNatClampNeg, half, 0)], wsI S, wsR S, wsM S)
def pCarve (S : WS) (b : Int32) : WA := match ixO b (wsB S).length with
  | none => aIOB
  | some i => aOk (bWear (gB S i)) ((wsB S).set i (bRep (gB S i), bHalf (gB S i), 0), wsI S, wsR S, wsM S)
def pInk (S : WS) (c s g : Int32) : WA :=
  if (c < 0 ∨ 5 < c) ∨ (s < 0 ∨ 9 < s) ∨ (g < 1 ∨ 999 < g) then aIAE else if 12 ≤ (wsI S).length then aFail 1 12
  else aOk (wsI S).length (wsB S, wsI S ++ [(c.toNatClampNeg, s.toNatClampNeg, g.toNatClampNeg)], wsR S, wsM S)
def pMix (S : WS) (a b g : Int32) : WA := match ixO a (wsI S).length, ixO b (wsI S).length with
  | some i, some j =>
    if a = b ∨ (g < 1 ∨ 999 < g) then aIAE
    else if iCol (gI S i) ≠ iCol (gI S j) then aFail 13 (iCol (gI S j))
    else if iGra (gI S i) < g.toNatClampNeg then aFail 3 (iGra (gI S i))
    else aOk ((iSha (gI S j) * iGra (gI S j) + iSha (gI S i) * g.toNatClampNeg) / (iGra (gI S j) + g.toNatClampNeg))
      (wsB S, ((wsI S).set i (iCol (gI S i), iSha (gI S i), iGra (gI S i) - g.toNatClampNeg)).set j (iCol (gI S j), (iSha (gI S j) * iGra (gI S j) + iSha (gI S i) * g.toNatClampNeg) / (iGra (gI S j) + g.toNatClampNeg), min 999 (iGra (gI S j) + g.toNatClampNeg)), wsR S, wsM S)
  | _, _ => aIOB
def pPrint (S : WS) (b i l : Int32) : WA := match ixO b (wsB S).length, ixO i (wsI S).length with
  | some bi, some ii =>
    if l < 100 ∨ 1000 < l then aIAE
    else if 100 ≤ bWear (gB S bi) then aFail 2 (bWear (gB S bi))
    else if iGra (gI S ii) < 1 + l.toNatClampNeg / 20 then aFail 3 (iGra (gI S ii))
    else if 24 ≤ (wsR S).length then aFail 1 24
    else aOk (wsR S).length
      ((wsB S).set bi (bRep (gB S bi), bHalf (gB S bi), min 100 (bWear (gB S bi) + l.toNatClampNeg / 100)), (wsI S).set ii (iCol (gI S ii), iSha (gI S ii), iGra (gI S ii) - (1 + l.toNatClampNeg / 20)),
       wsR S ++ [(bi, ii, iCol (gI S ii), iSha (gI S ii) + bWear (gB S bi) / 25, l.toNatClampNeg, 0, false)], wsM S)
  | _, _ => aIOB
def pBack (S : WS) (r : Int32) : WA := match ixO r (wsR S).length with
  | none => aIOB
  | some i =>
    if rBack (gR S i) = true then aFail 5 i
    else if rUsed (gR S i) ≠ 0 then aFail 11 (rUsed (gR S i))
    else if 1 < apart (rSha (gR S i)) (iSha (gI S (wLatest (rCol (gR S i)) (wsI S) 0 0))) then aFail 12 (apart (rSha (gR S i)) (iSha (gI S (wLatest (rCol (gR S i)) (wsI S) 0 0))))
    else aOk (rLen (gR S i)) (wsB S, wsI S, (wsR S).set i (rBlk (gR S i), rBat (gR S i), rCol (gR S i), rSha (gR S i), rLen (gR S i), rUsed (gR S i), true), wsM S)
def pRoom (S : WS) (he n : Int32) : WA :=
  if (he < 150 ∨ 400 < he) ∨ (n < 1 ∨ 30 < n) then aIAE else if 6 ≤ (wsM S).length then aFail 1 6
  else aOk (wsM S).length (wsB S, wsI S, wsR S, wsM S ++ [(he.toNatClampNeg, n.toNatClampNeg, [], 0, 0)])
def pHang (S : WS) (m r : Int32) : WA := match ixO m (wsM S).length, ixO r (wsR S).length with
  | some mi, some ri => if (wReason S (gM S mi) ri).1 ≠ 0 then aFail (wReason S (gM S mi) ri).1 (wReason S (gM S mi) ri).2 else aOk (wWaste S (gM S mi) (gR S ri)) (wHang S mi ri)
  | _, _ => aIOB
def pStrip (S : WS) (m : Int32) : WA := match ixO m (wsM S).length with
  | none => aIOB
  | some mi => if mDro (gM S mi) = [] then aFail 10 0
    else aOk (dRol (gD0 (gM S mi) ((mDro (gM S mi)).length - 1))) (wsB S, wsI S, wsR S, (wsM S).set mi (mHei (gM S mi), mNee (gM S mi), (mDro (gM S mi)).dropLast, mWas (gM S mi), mStr (gM S mi) + 1))
def pFinish (S : WS) (m : Int32) : WA := match ixO m (wsM S).length with
  | none => aIOB
  | some mi => if (mDro (gM S mi)).length = mNee (gM S mi) then aFail 4 (mNee (gM S mi))
    else if (wFinGo mi 30 S 0).1 = 0 then aFail 14 mi else aOk (wFinGo mi 30 S 0).1 (wFinGo mi 30 S 0).2
/-! what holds of every state -/
def InvB (b : WB) : Prop := 10 ≤ bRep b ∧ bRep b ≤ 90 ∧ bWear b ≤ 100
def InvI (i : WI) : Prop := iCol i ≤ 5 ∧ iSha i ≤ 9 ∧ iGra i ≤ 999
def InvR (S : WS) (r : WR) : Prop := rBlk r < (wsB S).length ∧ rBat r < (wsI S).length ∧ rCol r = iCol (gI S (rBat r)) ∧ rSha r ≤ 13 ∧ 100 ≤ rLen r ∧ rLen r ≤ 1000 ∧ rUsed r ≤ rLen r
def InvD (S : WS) (d : WD) : Prop := dRol d < (wsR S).length ∧ dSha d = rSha (gR S (dRol d)) ∧ dBeg d < 90 ∧ dWas d < 90
def InvM (S : WS) (m : WM) : Prop := 150 ≤ mHei m ∧ mHei m ≤ 400 ∧ 1 ≤ mNee m ∧ mNee m ≤ 30 ∧ (mDro m).length ≤ mNee m ∧ ∀ d ∈ mDro m, InvD S d
def Inv (S : WS) : Prop := (wsB S).length ≤ 6 ∧ (wsI S).length ≤ 12 ∧ (wsR S).length ≤ 24 ∧ (wsM S).length ≤ 6 ∧ (∀ b ∈ wsB S, InvB b) ∧ (∀ i ∈ wsI S, InvI i) ∧ (∀ r ∈ wsR S, InvR S r) ∧ ∀ m ∈ wsM S, InvM S m
