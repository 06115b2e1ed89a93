/-! THE SIMULATION: what Foundrymark's part of one heap (X) and FoundrymarkModel's part of another (Y) have in common -/
set_option maxRecDepth 100000
abbrev np (X : hS) : Nat := (sE X 21 0).length
/-- a part's class and number -/
abbrev pcl (X : hS) (p : Nat) : Nat := 2 + fPc X p % 2
abbrev pix (X : hS) (p : Nat) : Nat := fPc X p / 2
def rG (X Y : hS) : Prop := sT Y 11 5 0 = sT X 0 5 0 ∧ sT Y 11 8 0 = sT X 0 6 0
def rM (X Y : hS) : Prop := sn Y 12 = sn X 1 ∧ ∀ m : Nat, m < sn X 1 → (sT Y 12 0 m = sT X 1 0 m ∧ sT Y 12 1 m = sT X 1 1 m ∧ sT Y 12 2 m = sT X 1 2 m ∧ sT Y 12 3 m = sT X 1 3 m) ∧ sT Y 12 4 m = sT X 1 5 m ∧ sT Y 12 5 m = sT X 1 6 m ∧ sT Y 12 6 m = fState X m ∧
  sT Y 12 7 m = sT X 1 10 m ∧ sT Y 12 8 m = sT X 1 9 m ∧ sT Y 12 10 m = sT X 1 11 m ∧ (0 ≤ sT X 1 7 m → sT Y 12 9 m = sT X 1 7 m)
/-- components and operations of a made part -/
def rCs (X Y : hS) (p : Nat) : Prop := (sE Y 36 p).map (fun j => sE Y 46 j.toNat) = (sE X 24 (pix X p)).map (fun k => [sT X 4 0 k.toNat, sT X 4 1 k.toNat, sT X 4 2 k.toNat])
def rOs (X Y : hS) (p : Nat) : Prop := (sE Y 37 p).map (fun j => sE Y 46 j.toNat) = (sE X 25 (pix X p)).map (fun k => [sT X 5 0 k.toNat, sT X 5 1 k.toNat, sT X 5 2 k.toNat])
def rP (X Y : hS) : Prop := sn Y 13 = np X ∧ ∀ p : Nat, p < np X → sT Y 13 0 p = (if fPc X p % 2 = 0 then 1 else 0) ∧ sT Y 13 1 p = sT X (pcl X p) 1 (pix X p) ∧ sT Y 13 4 p = sT X (pcl X p) 2 (pix X p) ∧ sT Y 13 5 p = sT X (pcl X p) 3 (pix X p) ∧
  sT Y 13 6 p = sT X (pcl X p) 5 (pix X p) ∧ sT Y 13 7 p = sT X (pcl X p) 6 (pix X p) ∧ sT Y 13 8 p = sT X (pcl X p) 4 (pix X p) ∧ (fPc X p % 2 = 0 → rCs X Y p ∧ rOs X Y p)
def rL (X Y : hS) : Prop := sn Y 14 = sn X 6 ∧ ∀ l : Nat, l < sn X 6 → (∃ p : Nat, p < np X ∧ sT Y 14 1 l = p ∧ sT X 6 1 l = fPc X p) ∧ sT Y 14 2 l = sT X 6 4 l ∧ sT Y 14 3 l = sT X 6 5 l ∧ sT Y 14 4 l = sT X 6 6 l ∧ sT Y 14 5 l = sT X 6 7 l ∧ mch Y l = fch X l
/-- an order's fields that stay -/
def rOa (X Y : hS) (o : Nat) : Prop := (∃ p : Nat, p < np X ∧ sT Y 15 1 o = p ∧ sT X 8 1 o = fPc X p) ∧ sT Y 15 2 o = sT X 8 2 o ∧ sT Y 15 3 o = sT X 8 3 o ∧ sT Y 15 4 o = sT X 8 4 o
/-- its state -/
def rOs_ (z : Nat → Nat) (X Y : hS) (o s : Nat) : Prop := s < 6 ∧ sT X 8 7 o = (z s : Nat) ∧ sT Y 15 5 o = stL s ∧ sT Y 15 13 o = (if (sT X 8 1 o).toNat % 2 = 0 ∧ 4 ≤ s then sT X 8 11 o else -1) ∧ sT Y 15 14 o = (if s = 5 then sT X 8 12 o else -1)
def rOb (z : Nat → Nat) (X Y : hS) (o : Nat) : Prop := (∃ s : Nat, rOs_ z X Y o s) ∧ sT Y 15 8 o = sT X 8 8 o ∧ sT Y 15 9 o = sT X 8 9 o ∧ sT Y 15 11 o = sT X 8 10 o ∧ sT Y 15 12 o = sT X 8 13 o
/-- what it has taken: lots and pieces -/
def fTl (X : hS) (o : Nat) : List (Int × Int) := (sE X 26 (fOL X o)).map (fun t => (sT X 7 0 t.toNat, sT X 7 1 t.toNat))
def mTl (Y : hS) (o : Nat) : List (Int × Int) := (mZs Y o).map (fun q => (q.1, sT Y 19 0 q.2.toNat))
def rT (X Y : hS) (o : Nat) : Prop := mTl Y o = fTl X o ∧ (sE Y 38 o).length = (sE Y 39 o).length
def rD (X Y : hS) (o : Nat) : Prop := sE Y 40 o = (sE X 27 (fDelL X o)).map (fun t => sT X 7 0 t.toNat) ∧ sT Y 15 15 o = fDelSum X o (sE X 27 (fDelL X o)).length
def rO (z : Nat → Nat) (X Y : hS) : Prop := sn Y 15 = sn X 8 ∧ ∀ o : Nat, o < sn X 8 → rOa X Y o ∧ rOb z X Y o ∧ rT X Y o ∧ rD X Y o
def rQ (X Y : hS) : Prop := ∀ m : Nat, m < sn X 1 → (sE X 45 m).Nodup ∧ ∀ x : Int, x ∈ sE X 45 m ↔ 0 ≤ x ∧ x < sn X 8 ∧ sT Y 15 5 x.toNat = 119 ∧ sT Y 15 10 x.toNat = m
def rS (z : Nat → Nat) (X Y : hS) : Prop := sE Y 34 0 = idl 4 ∧ sn Y 35 = 4 ∧ (sE Y 47 0).length = 4 ∧ ∀ x : Nat, x < 4 → sE Y 35 x = sE X 28 x ∧ (sE Y 47 0)[x]? = some (rlL (fRl z X x))
def rR (z : Nat → Nat) (X Y : hS) : Prop := rG X Y ∧ rM X Y ∧ rP X Y ∧ rL X Y ∧ rO z X Y ∧ rQ X Y ∧ rS z X Y
/-- the model's own shape -/
def mShape (Y : hS) : Prop := mFix Y ∧ (∀ p : Nat, p < sn Y 13 → sT Y 13 2 p = (p : Nat) ∧ sT Y 13 3 p = (p : Nat) ∧ (sT Y 13 0 p = 0 → sE Y 36 p = [] ∧ sE Y 37 p = []) ∧ (∀ j ∈ sE Y 36 p, 0 ≤ j ∧ j < sn Y 46) ∧ ∀ j ∈ sE Y 37 p, 0 ≤ j ∧ j < sn Y 46) ∧ (∀ l : Nat, l < sn Y 14 → sT Y 14 0 l = (l : Nat) ∧ sT Y 14 6 l = (l : Nat) ∧ ∀ t ∈ sE Y 41 l, 0 ≤ t) ∧
  (∀ o : Nat, o < sn Y 15 → sT Y 15 0 o = (o : Nat) ∧ sT Y 15 6 o = (o : Nat) ∧ sT Y 15 7 o = (o : Nat) ∧ sT Y 15 16 o = (o : Nat) ∧ rg (sT Y 15 10 o) ∧ (sT Y 15 5 o = 119 → 0 ≤ sT Y 15 10 o ∧ sT Y 15 10 o < sn Y 12)) ∧ sn Y 36 = sn Y 13 ∧ sn Y 37 = sn Y 13 ∧ sn Y 41 = sn Y 14 ∧ sn Y 38 = sn Y 15 ∧ sn Y 39 = sn Y 15 ∧ sn Y 40 = sn Y 15
