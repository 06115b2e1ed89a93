/-! FOUNDRYMARK'S INVARIANTS (k: how many calls were made) -/
set_option maxRecDepth 100000
/-- a sum over 0 .. n - 1 -/
def isum (n : Nat) (f : Nat → Int) : Int := ((List.range n).map f).sum
/-- pieces of lot l in a list of (lot, pieces) -/
def pl (L : List (Int × Int)) (l : Nat) : Int := (L.map (fun q => if q.1 = (l : Int) then q.2 else 0)).sum
/-- delivered: lots and pieces -/
def fDv (X : hS) (o : Nat) : List (Int × Int) := (sE X 27 (fDelL X o)).map (fun t => (sT X 7 0 t.toNat, sT X 7 1 t.toNat))
/-- parts -/
def iPt (k : Nat) (X : hS) : Prop := (∀ p : Nat, p < np X → 0 ≤ (sE X 21 0).getD p 0 ∧ pix X p < sn X (pcl X p) ∧ sT X (pcl X p) 0 (pix X p) = p) ∧ sn X 24 = sn X 2 ∧ sn X 25 = sn X 2 ∧
  (∀ i : Nat, i < sn X 2 → sT X 2 7 i = (i : Nat) ∧ sT X 2 8 i = (i : Nat) ∧ (sE X 24 i).length ≤ 4 ∧ (sE X 25 i).length ≤ 3) ∧
  (∀ c i : Nat, c = 2 ∨ c = 3 → i < sn X c → (0 ≤ sT X c 1 i ∧ sT X c 1 i ≤ 3) ∧ (0 ≤ sT X c 2 i ∧ sT X c 2 i ≤ 1000) ∧ (0 ≤ sT X c 3 i ∧ sT X c 3 i ≤ 500) ∧ (0 ≤ sT X c 4 i ∧ sT X c 4 i ≤ k) ∧ (0 ≤ sT X c 5 i ∧ sT X c 5 i ≤ k) ∧ (0 ≤ sT X c 6 i ∧ sT X c 6 i ≤ k)) ∧
  (∀ i : Nat, i < sn X 2 → ∀ j ∈ sE X 24 i, 0 ≤ j ∧ j < sn X 4 ∧ sT X 4 0 j.toNat < sT X 2 0 i) ∧ (∀ j : Nat, j < sn X 4 → (0 ≤ sT X 4 0 j ∧ sT X 4 0 j < np X) ∧ (1 ≤ sT X 4 1 j ∧ sT X 4 1 j ≤ 9) ∧ (-1 ≤ sT X 4 2 j ∧ sT X 4 2 j ≤ 2)) ∧
  (∀ i : Nat, i < sn X 2 → ∀ j ∈ sE X 25 i, 0 ≤ j ∧ j < sn X 5) ∧ fOps X
/-- machines, each by itself -/
def iMc (X : hS) : Prop := sn X 45 = sn X 1 ∧ (0 ≤ sT X 0 6 0 ∧ sT X 0 6 0 ≤ 5000) ∧ ∀ m : Nat, m < sn X 1 → sT X 1 4 m = (m : Nat) ∧ (sT X 1 8 m = 0 ∨ sT X 1 8 m = 1) ∧ ((0 ≤ sT X 1 0 m ∧ sT X 1 0 m ≤ 20) ∧ (0 ≤ sT X 1 1 m ∧ sT X 1 1 m ≤ 50) ∧ (5 ≤ sT X 1 2 m ∧ sT X 1 2 m ≤ 500) ∧ (1 ≤ sT X 1 3 m ∧ sT X 1 3 m ≤ 99)) ∧
  (-1 ≤ sT X 1 5 m ∧ sT X 1 5 m ≤ 3) ∧ (0 ≤ sT X 1 6 m ∧ sT X 1 6 m ≤ 500) ∧ (0 ≤ sT X 1 10 m ∧ sT X 1 10 m ≤ 10000) ∧ (0 ≤ sT X 1 9 m ∧ sT X 1 9 m ≤ sT X 0 6 0) ∧ (0 ≤ sT X 1 11 m ∧ (if sT X 1 7 m < 0 then sT X 1 11 m else sT X 1 11 m + (sT X 0 6 0 - sT X 1 9 m)) ≤ sT X 0 6 0)
/-- lots, what stays -/
def iLo (X : hS) : Prop := ∀ l : Nat, l < sn X 6 → sT X 6 0 l = (l : Nat) ∧ (∃ p : Nat, p < np X ∧ sT X 6 1 l = fPc X p) ∧ (1 ≤ sT X 6 2 l ∧ sT X 6 2 l ≤ 500) ∧ (0 ≤ sT X 6 3 l ∧ sT X 6 3 l < sn X 26) ∧ (sT X 6 7 l = 0 ∨ sT X 6 7 l = 1) ∧ ∀ t ∈ sE X 26 (sT X 6 3 l).toNat, sT X 7 0 t.toNat < l
/-- what is taken -/
def iTk (X : hS) : Prop := (∀ i : Nat, i < sn X 26 → ∀ t ∈ sE X 26 i, 0 ≤ t ∧ t < sn X 7) ∧ (∀ i : Nat, i < sn X 27 → ∀ t ∈ sE X 27 i, 0 ≤ t ∧ t < sn X 7) ∧ ∀ t : Nat, t < sn X 7 → (0 ≤ sT X 7 0 t ∧ sT X 7 0 t < sn X 6) ∧ (1 ≤ sT X 7 1 t ∧ sT X 7 1 t ≤ 500)
/-- orders, each by itself -/
def iOr (z : Nat → Nat) (X : hS) : Prop := ∀ o : Nat, o < sn X 8 → sT X 8 0 o = (o : Nat) ∧ (∃ p : Nat, p < np X ∧ sT X 8 1 o = fPc X p) ∧ (1 ≤ sT X 8 2 o ∧ sT X 8 2 o ≤ 100) ∧ (0 ≤ sT X 8 3 o ∧ sT X 8 3 o ≤ 2) ∧ (0 ≤ sT X 8 4 o ∧ sT X 8 4 o ≤ 9999) ∧
  (0 ≤ sT X 8 5 o ∧ sT X 8 5 o < sn X 26) ∧ (0 ≤ sT X 8 6 o ∧ sT X 8 6 o < sn X 27) ∧ (∃ s : Nat, s < 6 ∧ sT X 8 7 o = (z s : Nat)) ∧ (0 ≤ sT X 8 8 o ∧ sT X 8 8 o ≤ 100) ∧ (0 ≤ sT X 8 9 o ∧ sT X 8 9 o ≤ 3) ∧ (-1 ≤ sT X 8 13 o ∧ sT X 8 13 o < sn X 6) ∧ (0 ≤ sT X 8 11 o ∧ sT X 8 11 o ≤ 5000) ∧ (0 ≤ sT X 8 12 o ∧ sT X 8 12 o ≤ 5000) ∧ ((sT X 8 1 o).toNat % 2 = 1 → sT X 8 7 o = (z 0 : Nat) ∨ sT X 8 7 o = (z 5 : Nat)) ∧
  (sT X 8 7 o = (z 0 : Nat) ∨ sT X 8 7 o = (z 1 : Nat) → sT X 8 9 o = 0 ∧ sT X 8 8 o = 0 ∧ sT X 8 10 o = 0) ∧ (sT X 8 7 o ≠ (z 4 : Nat) → sT X 8 7 o ≠ (z 5 : Nat) → sT X 8 13 o = -1) ∧ (0 ≤ sT X 8 13 o → sT X 6 1 (sT X 8 13 o).toNat = sT X 8 1 o)
/-- which lists belong to whom -/
def iSp (z : Nat → Nat) (X : hS) : Prop := (∀ o q : Nat, o < sn X 8 → q < sn X 8 → sT X 8 5 o = sT X 8 5 q → o = q) ∧ (∀ o q : Nat, o < sn X 8 → q < sn X 8 → sT X 8 6 o = sT X 8 6 q → o = q) ∧ (∀ l o : Nat, l < sn X 6 → o < sn X 8 → sT X 6 3 l = sT X 8 5 o → sT X 8 7 o = (z 4 : Nat) ∨ sT X 8 7 o = (z 5 : Nat)) ∧ (∀ l q : Nat, l < sn X 6 → q < sn X 6 → sT X 6 3 l = sT X 6 3 q → l = q)
/-- queues and work -/
def iQw (z : Nat → Nat) (X : hS) : Prop := (∀ m : Nat, m < sn X 1 → ∀ x ∈ sE X 45 m, 0 ≤ x ∧ x < sn X 8 ∧ sT X 8 7 x.toNat = (z 2 : Nat) ∧ fQok X x.toNat) ∧
  (∀ m : Nat, m < sn X 1 → -1 ≤ sT X 1 7 m ∧ (0 ≤ sT X 1 7 m → sT X 1 8 m = 0 ∧ sT X 1 7 m < sn X 8 ∧ sT X 8 7 (sT X 1 7 m).toNat = (z 3 : Nat) ∧ fQok X (sT X 1 7 m).toNat)) ∧ (∀ m q : Nat, m < sn X 1 → q < sn X 1 → 0 ≤ sT X 1 7 m → sT X 1 7 m = sT X 1 7 q → m = q)
/-- reserved pieces; pieces that are gone; b: which orders count as promised -/
def iRb (b : Nat → Bool) (X : hS) : Prop := ∀ l : Nat, l < sn X 6 → sT X 6 5 l = isum (sn X 8) (fun o => if b o = true then pl (fTl X o) l else 0) ∧ sT X 6 5 l ≤ sT X 6 4 l ∧
  sT X 6 2 l = sT X 6 4 l + isum (sn X 8) (fun o => (if b o = true then 0 else pl (fTl X o) l) + pl (fDv X o) l)
def iRes (z : Nat → Nat) (X : hS) : Prop := iRb (fPr z X) X
/-- costs -/
def iCo (z : Nat → Nat) (k : Nat) (X : hS) : Prop := (∀ l : Nat, l < sn X 6 → 0 ≤ sT X 6 6 l) ∧ (∀ o : Nat, o < sn X 8 → 0 ≤ sT X 8 10 o) ∧ (∀ t : Nat, t < sn X 7 → 0 ≤ sT X 7 2 t) ∧ 0 ≤ sT X 0 9 0 ∧ fSumO z X (sn X 8) = sT X 0 7 0 + sT X 0 8 0 ∧ sT X 0 7 0 + sT X 0 8 0 ≤ k * 1000000000
/-- promised orders have nothing of held lots -/
def iHb (b : Nat → Bool) (X : hS) : Prop := ∀ o : Nat, o < sn X 8 → b o = true → ∀ t ∈ sE X 26 (fOL X o), tHeld (fh X) (fch X) 100 (fLotOf X t) = false
def iHd (z : Nat → Nat) (X : hS) : Prop := iHb (fPr z X) X
/-- new orders have taken nothing, nothing is delivered but by delivered ones; lists are short -/
def iEm (z : Nat → Nat) (X : hS) : Prop := ∀ o : Nat, o < sn X 8 → (sT X 8 7 o = (z 0 : Nat) → sE X 26 (fOL X o) = []) ∧ (sT X 8 7 o ≠ (z 5 : Nat) → sE X 27 (fDelL X o) = []) ∧ (sE X 26 (fOL X o)).length ≤ 400
/-- counts -/
def iCn (z : Nat → Nat) (k : Nat) (X : hS) : Prop := 0 ≤ sT X 0 5 0 ∧ sT X 0 5 0 ≤ 60 ∧ sT X 0 5 0 + sn X 8 ≤ k ∧ (sn X 6 : Int) ≤ sT X 0 5 0 + isum (sn X 8) (fun o => if sT X 8 7 o = (z 4 : Nat) ∨ sT X 8 7 o = (z 5 : Nat) then 1 else 0) ∧ ∀ x : Nat, x < 4 → ((sE X 28 x).length : Int) ≤ sT X 0 5 0
def iSu (z : Nat → Nat) (X : hS) : Prop := sn X 9 = 4 ∧ sE X 48 0 = idl 4 ∧ ∀ x : Nat, x < 4 → (∃ r : Nat, 6 ≤ r ∧ r < 9 ∧ sT X 9 0 x = (z r : Nat)) ∧ sT X 9 1 x = (x : Nat) ∧ ∀ y ∈ sE X 28 x, isB z y
def iAll (z : Nat → Nat) (k : Nat) (X : hS) : Prop := fFix X ∧ iPt k X ∧ iMc X ∧ iLo X ∧ iTk X ∧ iOr z X ∧ iSp z X ∧ iQw z X ∧ iRes z X ∧ iCo z k X ∧ iHd z X ∧ iEm z X ∧ iCn z k X ∧ iSu z X
def zInj (z : Nat → Nat) : Prop := ∀ i j : Nat, i < 11 → j < 11 → z i = z j → i = j
/-- the small Integers -/
def mBox (Y : hS) : Prop := 256 ≤ sn Y 19 ∧ (∀ j : Nat, j < 256 → sT Y 19 0 j = (j : Int) - 128) ∧ ∀ o : Nat, o < sn Y 15 → ∀ q ∈ sE Y 39 o, 0 ≤ q ∧ q < sn Y 19
