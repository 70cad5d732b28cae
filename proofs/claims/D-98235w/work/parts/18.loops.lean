/-! loops: the least fixed point by fuel; LpN_ind is the rule: an invariant with a number that falls. Written by tools/mkloops.py -/
def it0 (B : (Hp → Prop) → Hp → Prop) : Nat → Hp → Prop
  | 0 => fun _ => False
  | k + 1 => B (it0 B k)
def Lp0 (B : (Hp → Prop) → Hp → Prop) (h : Hp) : Prop := ∃ k, it0 B k h
theorem Lp0_ind {B : (Hp → Prop) → Hp → Prop} (I : Nat → Hp → Prop) (hs : ∀ (k : Nat) (h : Hp), I k h → ∀ K : Hp → Prop, (∀ (m : Nat) (h2 : Hp), m < k → I m h2 → K h2) → B K h) {k : Nat} {h : Hp} (hI : I k h) : Lp0 B h := by
  have key : ∀ (N k : Nat) (h : Hp), k ≤ N → I k h → it0 B (N + 1) h := by
    intro N
    induction N with
    | zero =>
      intro k h hk hi
      exact hs k h hi _ (fun m h2 hm _ => absurd hm (by omega))
    | succ N ih =>
      intro k h hk hi
      exact hs k h hi _ (fun m h2 hm hi2 => ih m h2 (by omega) hi2)
  exact ⟨k + 1, key k k h (Nat.le_refl k) hI⟩
def it1 (B : (Int → Hp → Prop) → Int → Hp → Prop) : Nat → Int → Hp → Prop
  | 0 => fun _ _ => False
  | k + 1 => B (it1 B k)
def Lp1 (B : (Int → Hp → Prop) → Int → Hp → Prop) (a0 : Int) (h : Hp) : Prop := ∃ k, it1 B k a0 h
theorem Lp1_ind {B : (Int → Hp → Prop) → Int → Hp → Prop} (I : Nat → Int → Hp → Prop) (hs : ∀ (k : Nat) (a0 : Int) (h : Hp), I k a0 h → ∀ K : Int → Hp → Prop, (∀ (m : Nat) (b0 : Int) (h2 : Hp), m < k → I m b0 h2 → K b0 h2) → B K a0 h) {k : Nat} {a0 : Int} {h : Hp} (hI : I k a0 h) : Lp1 B a0 h := by
  have key : ∀ (N k : Nat) (a0 : Int) (h : Hp), k ≤ N → I k a0 h → it1 B (N + 1) a0 h := by
    intro N
    induction N with
    | zero =>
      intro k a0 h hk hi
      exact hs k a0 h hi _ (fun m b0 h2 hm _ => absurd hm (by omega))
    | succ N ih =>
      intro k a0 h hk hi
      exact hs k a0 h hi _ (fun m b0 h2 hm hi2 => ih m b0 h2 (by omega) hi2)
  exact ⟨k + 1, key k k a0 h (Nat.le_refl k) hI⟩
def it2 (B : (Int → Int → Hp → Prop) → Int → Int → Hp → Prop) : Nat → Int → Int → Hp → Prop
  | 0 => fun _ _ _ => False
  | k + 1 => B (it2 B k)
def Lp2 (B : (Int → Int → Hp → Prop) → Int → Int → Hp → Prop) (a0 a1 : Int) (h : Hp) : Prop := ∃ k, it2 B k a0 a1 h
theorem Lp2_ind {B : (Int → Int → Hp → Prop) → Int → Int → Hp → Prop} (I : Nat → Int → Int → Hp → Prop) (hs : ∀ (k : Nat) (a0 a1 : Int) (h : Hp), I k a0 a1 h → ∀ K : Int → Int → Hp → Prop, (∀ (m : Nat) (b0 b1 : Int) (h2 : Hp), m < k → I m b0 b1 h2 → K b0 b1 h2) → B K a0 a1 h) {k : Nat} {a0 a1 : Int} {h : Hp} (hI : I k a0 a1 h) : Lp2 B a0 a1 h := by
  have key : ∀ (N k : Nat) (a0 a1 : Int) (h : Hp), k ≤ N → I k a0 a1 h → it2 B (N + 1) a0 a1 h := by
    intro N
    induction N with
    | zero =>
      intro k a0 a1 h hk hi
      exact hs k a0 a1 h hi _ (fun m b0 b1 h2 hm _ => absurd hm (by omega))
    | succ N ih =>
      intro k a0 a1 h hk hi
      exact hs k a0 a1 h hi _ (fun m b0 b1 h2 hm hi2 => ih m b0 b1 h2 (by omega) hi2)
  exact ⟨k + 1, key k k a0 a1 h (Nat.le_refl k) hI⟩
def it3 (B : (Int → Int → Int → Hp → Prop) → Int → Int → Int → Hp → Prop) : Nat → Int → Int → Int → Hp → Prop
  | 0 => fun _ _ _ _ => False
  | k + 1 => B (it3 B k)
def Lp3 (B : (Int → Int → Int → Hp → Prop) → Int → Int → Int → Hp → Prop) (a0 a1 a2 : Int) (h : Hp) : Prop := ∃ k, it3 B k a0 a1 a2 h
theorem Lp3_ind {B : (Int → Int → Int → Hp → Prop) → Int → Int → Int → Hp → Prop} (I : Nat → Int → Int → Int → Hp → Prop) (hs : ∀ (k : Nat) (a0 a1 a2 : Int) (h : Hp), I k a0 a1 a2 h → ∀ K : Int → Int → Int → Hp → Prop, (∀ (m : Nat) (b0 b1 b2 : Int) (h2 : Hp), m < k → I m b0 b1 b2 h2 → K b0 b1 b2 h2) → B K a0 a1 a2 h) {k : Nat} {a0 a1 a2 : Int} {h : Hp} (hI : I k a0 a1 a2 h) : Lp3 B a0 a1 a2 h := by
  have key : ∀ (N k : Nat) (a0 a1 a2 : Int) (h : Hp), k ≤ N → I k a0 a1 a2 h → it3 B (N + 1) a0 a1 a2 h := by
    intro N
    induction N with
    | zero =>
      intro k a0 a1 a2 h hk hi
      exact hs k a0 a1 a2 h hi _ (fun m b0 b1 b2 h2 hm _ => absurd hm (by omega))
    | succ N ih =>
      intro k a0 a1 a2 h hk hi
      exact hs k a0 a1 a2 h hi _ (fun m b0 b1 b2 h2 hm hi2 => ih m b0 b1 b2 h2 (by omega) hi2)
  exact ⟨k + 1, key k k a0 a1 a2 h (Nat.le_refl k) hI⟩
def it4 (B : (Int → Int → Int → Int → Hp → Prop) → Int → Int → Int → Int → Hp → Prop) : Nat → Int → Int → Int → Int → Hp → Prop
  | 0 => fun _ _ _ _ _ => False
  | k + 1 => B (it4 B k)
def Lp4 (B : (Int → Int → Int → Int → Hp → Prop) → Int → Int → Int → Int → Hp → Prop) (a0 a1 a2 a3 : Int) (h : Hp) : Prop := ∃ k, it4 B k a0 a1 a2 a3 h
theorem Lp4_ind {B : (Int → Int → Int → Int → Hp → Prop) → Int → Int → Int → Int → Hp → Prop} (I : Nat → Int → Int → Int → Int → Hp → Prop) (hs : ∀ (k : Nat) (a0 a1 a2 a3 : Int) (h : Hp), I k a0 a1 a2 a3 h → ∀ K : Int → Int → Int → Int → Hp → Prop, (∀ (m : Nat) (b0 b1 b2 b3 : Int) (h2 : Hp), m < k → I m b0 b1 b2 b3 h2 → K b0 b1 b2 b3 h2) → B K a0 a1 a2 a3 h) {k : Nat} {a0 a1 a2 a3 : Int} {h : Hp} (hI : I k a0 a1 a2 a3 h) : Lp4 B a0 a1 a2 a3 h := by
  have key : ∀ (N k : Nat) (a0 a1 a2 a3 : Int) (h : Hp), k ≤ N → I k a0 a1 a2 a3 h → it4 B (N + 1) a0 a1 a2 a3 h := by
    intro N
    induction N with
    | zero =>
      intro k a0 a1 a2 a3 h hk hi
      exact hs k a0 a1 a2 a3 h hi _ (fun m b0 b1 b2 b3 h2 hm _ => absurd hm (by omega))
    | succ N ih =>
      intro k a0 a1 a2 a3 h hk hi
      exact hs k a0 a1 a2 a3 h hi _ (fun m b0 b1 b2 b3 h2 hm hi2 => ih m b0 b1 b2 b3 h2 (by omega) hi2)
  exact ⟨k + 1, key k k a0 a1 a2 a3 h (Nat.le_refl k) hI⟩
def it5 (B : (Int → Int → Int → Int → Int → Hp → Prop) → Int → Int → Int → Int → Int → Hp → Prop) : Nat → Int → Int → Int → Int → Int → Hp → Prop
  | 0 => fun _ _ _ _ _ _ => False
  | k + 1 => B (it5 B k)
def Lp5 (B : (Int → Int → Int → Int → Int → Hp → Prop) → Int → Int → Int → Int → Int → Hp → Prop) (a0 a1 a2 a3 a4 : Int) (h : Hp) : Prop := ∃ k, it5 B k a0 a1 a2 a3 a4 h
theorem Lp5_ind {B : (Int → Int → Int → Int → Int → Hp → Prop) → Int → Int → Int → Int → Int → Hp → Prop} (I : Nat → Int → Int → Int → Int → Int → Hp → Prop) (hs : ∀ (k : Nat) (a0 a1 a2 a3 a4 : Int) (h : Hp), I k a0 a1 a2 a3 a4 h → ∀ K : Int → Int → Int → Int → Int → Hp → Prop, (∀ (m : Nat) (b0 b1 b2 b3 b4 : Int) (h2 : Hp), m < k → I m b0 b1 b2 b3 b4 h2 → K b0 b1 b2 b3 b4 h2) → B K a0 a1 a2 a3 a4 h) {k : Nat} {a0 a1 a2 a3 a4 : Int} {h : Hp} (hI : I k a0 a1 a2 a3 a4 h) : Lp5 B a0 a1 a2 a3 a4 h := by
  have key : ∀ (N k : Nat) (a0 a1 a2 a3 a4 : Int) (h : Hp), k ≤ N → I k a0 a1 a2 a3 a4 h → it5 B (N + 1) a0 a1 a2 a3 a4 h := by
    intro N
    induction N with
    | zero =>
      intro k a0 a1 a2 a3 a4 h hk hi
      exact hs k a0 a1 a2 a3 a4 h hi _ (fun m b0 b1 b2 b3 b4 h2 hm _ => absurd hm (by omega))
    | succ N ih =>
      intro k a0 a1 a2 a3 a4 h hk hi
      exact hs k a0 a1 a2 a3 a4 h hi _ (fun m b0 b1 b2 b3 b4 h2 hm hi2 => ih m b0 b1 b2 b3 b4 h2 (by omega) hi2)
  exact ⟨k + 1, key k k a0 a1 a2 a3 a4 h (Nat.le_refl k) hI⟩
def it6 (B : (Int → Int → Int → Int → Int → Int → Hp → Prop) → Int → Int → Int → Int → Int → Int → Hp → Prop) : Nat → Int → Int → Int → Int → Int → Int → Hp → Prop
  | 0 => fun _ _ _ _ _ _ _ => False
  | k + 1 => B (it6 B k)
def Lp6 (B : (Int → Int → Int → Int → Int → Int → Hp → Prop) → Int → Int → Int → Int → Int → Int → Hp → Prop) (a0 a1 a2 a3 a4 a5 : Int) (h : Hp) : Prop := ∃ k, it6 B k a0 a1 a2 a3 a4 a5 h
theorem Lp6_ind {B : (Int → Int → Int → Int → Int → Int → Hp → Prop) → Int → Int → Int → Int → Int → Int → Hp → Prop} (I : Nat → Int → Int → Int → Int → Int → Int → Hp → Prop) (hs : ∀ (k : Nat) (a0 a1 a2 a3 a4 a5 : Int) (h : Hp), I k a0 a1 a2 a3 a4 a5 h → ∀ K : Int → Int → Int → Int → Int → Int → Hp → Prop, (∀ (m : Nat) (b0 b1 b2 b3 b4 b5 : Int) (h2 : Hp), m < k → I m b0 b1 b2 b3 b4 b5 h2 → K b0 b1 b2 b3 b4 b5 h2) → B K a0 a1 a2 a3 a4 a5 h) {k : Nat} {a0 a1 a2 a3 a4 a5 : Int} {h : Hp} (hI : I k a0 a1 a2 a3 a4 a5 h) : Lp6 B a0 a1 a2 a3 a4 a5 h := by
  have key : ∀ (N k : Nat) (a0 a1 a2 a3 a4 a5 : Int) (h : Hp), k ≤ N → I k a0 a1 a2 a3 a4 a5 h → it6 B (N + 1) a0 a1 a2 a3 a4 a5 h := by
    intro N
    induction N with
    | zero =>
      intro k a0 a1 a2 a3 a4 a5 h hk hi
      exact hs k a0 a1 a2 a3 a4 a5 h hi _ (fun m b0 b1 b2 b3 b4 b5 h2 hm _ => absurd hm (by omega))
    | succ N ih =>
      intro k a0 a1 a2 a3 a4 a5 h hk hi
      exact hs k a0 a1 a2 a3 a4 a5 h hi _ (fun m b0 b1 b2 b3 b4 b5 h2 hm hi2 => ih m b0 b1 b2 b3 b4 b5 h2 (by omega) hi2)
  exact ⟨k + 1, key k k a0 a1 a2 a3 a4 a5 h (Nat.le_refl k) hI⟩
def it7 (B : (Int → Int → Int → Int → Int → Int → Int → Hp → Prop) → Int → Int → Int → Int → Int → Int → Int → Hp → Prop) : Nat → Int → Int → Int → Int → Int → Int → Int → Hp → Prop
  | 0 => fun _ _ _ _ _ _ _ _ => False
  | k + 1 => B (it7 B k)
def Lp7 (B : (Int → Int → Int → Int → Int → Int → Int → Hp → Prop) → Int → Int → Int → Int → Int → Int → Int → Hp → Prop) (a0 a1 a2 a3 a4 a5 a6 : Int) (h : Hp) : Prop := ∃ k, it7 B k a0 a1 a2 a3 a4 a5 a6 h
theorem Lp7_ind {B : (Int → Int → Int → Int → Int → Int → Int → Hp → Prop) → Int → Int → Int → Int → Int → Int → Int → Hp → Prop} (I : Nat → Int → Int → Int → Int → Int → Int → Int → Hp → Prop) (hs : ∀ (k : Nat) (a0 a1 a2 a3 a4 a5 a6 : Int) (h : Hp), I k a0 a1 a2 a3 a4 a5 a6 h → ∀ K : Int → Int → Int → Int → Int → Int → Int → Hp → Prop, (∀ (m : Nat) (b0 b1 b2 b3 b4 b5 b6 : Int) (h2 : Hp), m < k → I m b0 b1 b2 b3 b4 b5 b6 h2 → K b0 b1 b2 b3 b4 b5 b6 h2) → B K a0 a1 a2 a3 a4 a5 a6 h) {k : Nat} {a0 a1 a2 a3 a4 a5 a6 : Int} {h : Hp} (hI : I k a0 a1 a2 a3 a4 a5 a6 h) : Lp7 B a0 a1 a2 a3 a4 a5 a6 h := by
  have key : ∀ (N k : Nat) (a0 a1 a2 a3 a4 a5 a6 : Int) (h : Hp), k ≤ N → I k a0 a1 a2 a3 a4 a5 a6 h → it7 B (N + 1) a0 a1 a2 a3 a4 a5 a6 h := by
    intro N
    induction N with
    | zero =>
      intro k a0 a1 a2 a3 a4 a5 a6 h hk hi
      exact hs k a0 a1 a2 a3 a4 a5 a6 h hi _ (fun m b0 b1 b2 b3 b4 b5 b6 h2 hm _ => absurd hm (by omega))
    | succ N ih =>
      intro k a0 a1 a2 a3 a4 a5 a6 h hk hi
      exact hs k a0 a1 a2 a3 a4 a5 a6 h hi _ (fun m b0 b1 b2 b3 b4 b5 b6 h2 hm hi2 => ih m b0 b1 b2 b3 b4 b5 b6 h2 (by omega) hi2)
  exact ⟨k + 1, key k k a0 a1 a2 a3 a4 a5 a6 h (Nat.le_refl k) hI⟩
def it8 (B : (Int → Int → Int → Int → Int → Int → Int → Int → Hp → Prop) → Int → Int → Int → Int → Int → Int → Int → Int → Hp → Prop) : Nat → Int → Int → Int → Int → Int → Int → Int → Int → Hp → Prop
  | 0 => fun _ _ _ _ _ _ _ _ _ => False
  | k + 1 => B (it8 B k)
def Lp8 (B : (Int → Int → Int → Int → Int → Int → Int → Int → Hp → Prop) → Int → Int → Int → Int → Int → Int → Int → Int → Hp → Prop) (a0 a1 a2 a3 a4 a5 a6 a7 : Int) (h : Hp) : Prop := ∃ k, it8 B k a0 a1 a2 a3 a4 a5 a6 a7 h
theorem Lp8_ind {B : (Int → Int → Int → Int → Int → Int → Int → Int → Hp → Prop) → Int → Int → Int → Int → Int → Int → Int → Int → Hp → Prop} (I : Nat → Int → Int → Int → Int → Int → Int → Int → Int → Hp → Prop) (hs : ∀ (k : Nat) (a0 a1 a2 a3 a4 a5 a6 a7 : Int) (h : Hp), I k a0 a1 a2 a3 a4 a5 a6 a7 h → ∀ K : Int → Int → Int → Int → Int → Int → Int → Int → Hp → Prop, (∀ (m : Nat) (b0 b1 b2 b3 b4 b5 b6 b7 : Int) (h2 : Hp), m < k → I m b0 b1 b2 b3 b4 b5 b6 b7 h2 → K b0 b1 b2 b3 b4 b5 b6 b7 h2) → B K a0 a1 a2 a3 a4 a5 a6 a7 h) {k : Nat} {a0 a1 a2 a3 a4 a5 a6 a7 : Int} {h : Hp} (hI : I k a0 a1 a2 a3 a4 a5 a6 a7 h) : Lp8 B a0 a1 a2 a3 a4 a5 a6 a7 h := by
  have key : ∀ (N k : Nat) (a0 a1 a2 a3 a4 a5 a6 a7 : Int) (h : Hp), k ≤ N → I k a0 a1 a2 a3 a4 a5 a6 a7 h → it8 B (N + 1) a0 a1 a2 a3 a4 a5 a6 a7 h := by
    intro N
    induction N with
    | zero =>
      intro k a0 a1 a2 a3 a4 a5 a6 a7 h hk hi
      exact hs k a0 a1 a2 a3 a4 a5 a6 a7 h hi _ (fun m b0 b1 b2 b3 b4 b5 b6 b7 h2 hm _ => absurd hm (by omega))
    | succ N ih =>
      intro k a0 a1 a2 a3 a4 a5 a6 a7 h hk hi
      exact hs k a0 a1 a2 a3 a4 a5 a6 a7 h hi _ (fun m b0 b1 b2 b3 b4 b5 b6 b7 h2 hm hi2 => ih m b0 b1 b2 b3 b4 b5 b6 b7 h2 (by omega) hi2)
  exact ⟨k + 1, key k k a0 a1 a2 a3 a4 a5 a6 a7 h (Nat.le_refl k) hI⟩
def it9 (B : (Int → Int → Int → Int → Int → Int → Int → Int → Int → Hp → Prop) → Int → Int → Int → Int → Int → Int → Int → Int → Int → Hp → Prop) : Nat → Int → Int → Int → Int → Int → Int → Int → Int → Int → Hp → Prop
  | 0 => fun _ _ _ _ _ _ _ _ _ _ => False
  | k + 1 => B (it9 B k)
def Lp9 (B : (Int → Int → Int → Int → Int → Int → Int → Int → Int → Hp → Prop) → Int → Int → Int → Int → Int → Int → Int → Int → Int → Hp → Prop) (a0 a1 a2 a3 a4 a5 a6 a7 a8 : Int) (h : Hp) : Prop := ∃ k, it9 B k a0 a1 a2 a3 a4 a5 a6 a7 a8 h
theorem Lp9_ind {B : (Int → Int → Int → Int → Int → Int → Int → Int → Int → Hp → Prop) → Int → Int → Int → Int → Int → Int → Int → Int → Int → Hp → Prop} (I : Nat → Int → Int → Int → Int → Int → Int → Int → Int → Int → Hp → Prop) (hs : ∀ (k : Nat) (a0 a1 a2 a3 a4 a5 a6 a7 a8 : Int) (h : Hp), I k a0 a1 a2 a3 a4 a5 a6 a7 a8 h → ∀ K : Int → Int → Int → Int → Int → Int → Int → Int → Int → Hp → Prop, (∀ (m : Nat) (b0 b1 b2 b3 b4 b5 b6 b7 b8 : Int) (h2 : Hp), m < k → I m b0 b1 b2 b3 b4 b5 b6 b7 b8 h2 → K b0 b1 b2 b3 b4 b5 b6 b7 b8 h2) → B K a0 a1 a2 a3 a4 a5 a6 a7 a8 h) {k : Nat} {a0 a1 a2 a3 a4 a5 a6 a7 a8 : Int} {h : Hp} (hI : I k a0 a1 a2 a3 a4 a5 a6 a7 a8 h) : Lp9 B a0 a1 a2 a3 a4 a5 a6 a7 a8 h := by
  have key : ∀ (N k : Nat) (a0 a1 a2 a3 a4 a5 a6 a7 a8 : Int) (h : Hp), k ≤ N → I k a0 a1 a2 a3 a4 a5 a6 a7 a8 h → it9 B (N + 1) a0 a1 a2 a3 a4 a5 a6 a7 a8 h := by
    intro N
    induction N with
    | zero =>
      intro k a0 a1 a2 a3 a4 a5 a6 a7 a8 h hk hi
      exact hs k a0 a1 a2 a3 a4 a5 a6 a7 a8 h hi _ (fun m b0 b1 b2 b3 b4 b5 b6 b7 b8 h2 hm _ => absurd hm (by omega))
    | succ N ih =>
      intro k a0 a1 a2 a3 a4 a5 a6 a7 a8 h hk hi
      exact hs k a0 a1 a2 a3 a4 a5 a6 a7 a8 h hi _ (fun m b0 b1 b2 b3 b4 b5 b6 b7 b8 h2 hm hi2 => ih m b0 b1 b2 b3 b4 b5 b6 b7 b8 h2 (by omega) hi2)
  exact ⟨k + 1, key k k a0 a1 a2 a3 a4 a5 a6 a7 a8 h (Nat.le_refl k) hI⟩
def it10 (B : (Int → Int → Int → Int → Int → Int → Int → Int → Int → Int → Hp → Prop) → Int → Int → Int → Int → Int → Int → Int → Int → Int → Int → Hp → Prop) : Nat → Int → Int → Int → Int → Int → Int → Int → Int → Int → Int → Hp → Prop
  | 0 => fun _ _ _ _ _ _ _ _ _ _ _ => False
  | k + 1 => B (it10 B k)
def Lp10 (B : (Int → Int → Int → Int → Int → Int → Int → Int → Int → Int → Hp → Prop) → Int → Int → Int → Int → Int → Int → Int → Int → Int → Int → Hp → Prop) (a0 a1 a2 a3 a4 a5 a6 a7 a8 a9 : Int) (h : Hp) : Prop := ∃ k, it10 B k a0 a1 a2 a3 a4 a5 a6 a7 a8 a9 h
theorem Lp10_ind {B : (Int → Int → Int → Int → Int → Int → Int → Int → Int → Int → Hp → Prop) → Int → Int → Int → Int → Int → Int → Int → Int → Int → Int → Hp → Prop} (I : Nat → Int → Int → Int → Int → Int → Int → Int → Int → Int → Int → Hp → Prop) (hs : ∀ (k : Nat) (a0 a1 a2 a3 a4 a5 a6 a7 a8 a9 : Int) (h : Hp), I k a0 a1 a2 a3 a4 a5 a6 a7 a8 a9 h → ∀ K : Int → Int → Int → Int → Int → Int → Int → Int → Int → Int → Hp → Prop, (∀ (m : Nat) (b0 b1 b2 b3 b4 b5 b6 b7 b8 b9 : Int) (h2 : Hp), m < k → I m b0 b1 b2 b3 b4 b5 b6 b7 b8 b9 h2 → K b0 b1 b2 b3 b4 b5 b6 b7 b8 b9 h2) → B K a0 a1 a2 a3 a4 a5 a6 a7 a8 a9 h) {k : Nat} {a0 a1 a2 a3 a4 a5 a6 a7 a8 a9 : Int} {h : Hp} (hI : I k a0 a1 a2 a3 a4 a5 a6 a7 a8 a9 h) : Lp10 B a0 a1 a2 a3 a4 a5 a6 a7 a8 a9 h := by
  have key : ∀ (N k : Nat) (a0 a1 a2 a3 a4 a5 a6 a7 a8 a9 : Int) (h : Hp), k ≤ N → I k a0 a1 a2 a3 a4 a5 a6 a7 a8 a9 h → it10 B (N + 1) a0 a1 a2 a3 a4 a5 a6 a7 a8 a9 h := by
    intro N
    induction N with
    | zero =>
      intro k a0 a1 a2 a3 a4 a5 a6 a7 a8 a9 h hk hi
      exact hs k a0 a1 a2 a3 a4 a5 a6 a7 a8 a9 h hi _ (fun m b0 b1 b2 b3 b4 b5 b6 b7 b8 b9 h2 hm _ => absurd hm (by omega))
    | succ N ih =>
      intro k a0 a1 a2 a3 a4 a5 a6 a7 a8 a9 h hk hi
      exact hs k a0 a1 a2 a3 a4 a5 a6 a7 a8 a9 h hi _ (fun m b0 b1 b2 b3 b4 b5 b6 b7 b8 b9 h2 hm hi2 => ih m b0 b1 b2 b3 b4 b5 b6 b7 b8 b9 h2 (by omega) hi2)
  exact ⟨k + 1, key k k a0 a1 a2 a3 a4 a5 a6 a7 a8 a9 h (Nat.le_refl k) hI⟩
def it11 (B : (Int → Int → Int → Int → Int → Int → Int → Int → Int → Int → Int → Hp → Prop) → Int → Int → Int → Int → Int → Int → Int → Int → Int → Int → Int → Hp → Prop) : Nat → Int → Int → Int → Int → Int → Int → Int → Int → Int → Int → Int → Hp → Prop
  | 0 => fun _ _ _ _ _ _ _ _ _ _ _ _ => False
  | k + 1 => B (it11 B k)
def Lp11 (B : (Int → Int → Int → Int → Int → Int → Int → Int → Int → Int → Int → Hp → Prop) → Int → Int → Int → Int → Int → Int → Int → Int → Int → Int → Int → Hp → Prop) (a0 a1 a2 a3 a4 a5 a6 a7 a8 a9 a10 : Int) (h : Hp) : Prop := ∃ k, it11 B k a0 a1 a2 a3 a4 a5 a6 a7 a8 a9 a10 h
theorem Lp11_ind {B : (Int → Int → Int → Int → Int → Int → Int → Int → Int → Int → Int → Hp → Prop) → Int → Int → Int → Int → Int → Int → Int → Int → Int → Int → Int → Hp → Prop} (I : Nat → Int → Int → Int → Int → Int → Int → Int → Int → Int → Int → Int → Hp → Prop) (hs : ∀ (k : Nat) (a0 a1 a2 a3 a4 a5 a6 a7 a8 a9 a10 : Int) (h : Hp), I k a0 a1 a2 a3 a4 a5 a6 a7 a8 a9 a10 h → ∀ K : Int → Int → Int → Int → Int → Int → Int → Int → Int → Int → Int → Hp → Prop, (∀ (m : Nat) (b0 b1 b2 b3 b4 b5 b6 b7 b8 b9 b10 : Int) (h2 : Hp), m < k → I m b0 b1 b2 b3 b4 b5 b6 b7 b8 b9 b10 h2 → K b0 b1 b2 b3 b4 b5 b6 b7 b8 b9 b10 h2) → B K a0 a1 a2 a3 a4 a5 a6 a7 a8 a9 a10 h) {k : Nat} {a0 a1 a2 a3 a4 a5 a6 a7 a8 a9 a10 : Int} {h : Hp} (hI : I k a0 a1 a2 a3 a4 a5 a6 a7 a8 a9 a10 h) : Lp11 B a0 a1 a2 a3 a4 a5 a6 a7 a8 a9 a10 h := by
  have key : ∀ (N k : Nat) (a0 a1 a2 a3 a4 a5 a6 a7 a8 a9 a10 : Int) (h : Hp), k ≤ N → I k a0 a1 a2 a3 a4 a5 a6 a7 a8 a9 a10 h → it11 B (N + 1) a0 a1 a2 a3 a4 a5 a6 a7 a8 a9 a10 h := by
    intro N
    induction N with
    | zero =>
      intro k a0 a1 a2 a3 a4 a5 a6 a7 a8 a9 a10 h hk hi
      exact hs k a0 a1 a2 a3 a4 a5 a6 a7 a8 a9 a10 h hi _ (fun m b0 b1 b2 b3 b4 b5 b6 b7 b8 b9 b10 h2 hm _ => absurd hm (by omega))
    | succ N ih =>
      intro k a0 a1 a2 a3 a4 a5 a6 a7 a8 a9 a10 h hk hi
      exact hs k a0 a1 a2 a3 a4 a5 a6 a7 a8 a9 a10 h hi _ (fun m b0 b1 b2 b3 b4 b5 b6 b7 b8 b9 b10 h2 hm hi2 => ih m b0 b1 b2 b3 b4 b5 b6 b7 b8 b9 b10 h2 (by omega) hi2)
  exact ⟨k + 1, key k k a0 a1 a2 a3 a4 a5 a6 a7 a8 a9 a10 h (Nat.le_refl k) hI⟩
def it12 (B : (Int → Int → Int → Int → Int → Int → Int → Int → Int → Int → Int → Int → Hp → Prop) → Int → Int → Int → Int → Int → Int → Int → Int → Int → Int → Int → Int → Hp → Prop) : Nat → Int → Int → Int → Int → Int → Int → Int → Int → Int → Int → Int → Int → Hp → Prop
  | 0 => fun _ _ _ _ _ _ _ _ _ _ _ _ _ => False
  | k + 1 => B (it12 B k)
def Lp12 (B : (Int → Int → Int → Int → Int → Int → Int → Int → Int → Int → Int → Int → Hp → Prop) → Int → Int → Int → Int → Int → Int → Int → Int → Int → Int → Int → Int → Hp → Prop) (a0 a1 a2 a3 a4 a5 a6 a7 a8 a9 a10 a11 : Int) (h : Hp) : Prop := ∃ k, it12 B k a0 a1 a2 a3 a4 a5 a6 a7 a8 a9 a10 a11 h
theorem Lp12_ind {B : (Int → Int → Int → Int → Int → Int → Int → Int → Int → Int → Int → Int → Hp → Prop) → Int → Int → Int → Int → Int → Int → Int → Int → Int → Int → Int → Int → Hp → Prop} (I : Nat → Int → Int → Int → Int → Int → Int → Int → Int → Int → Int → Int → Int → Hp → Prop) (hs : ∀ (k : Nat) (a0 a1 a2 a3 a4 a5 a6 a7 a8 a9 a10 a11 : Int) (h : Hp), I k a0 a1 a2 a3 a4 a5 a6 a7 a8 a9 a10 a11 h → ∀ K : Int → Int → Int → Int → Int → Int → Int → Int → Int → Int → Int → Int → Hp → Prop, (∀ (m : Nat) (b0 b1 b2 b3 b4 b5 b6 b7 b8 b9 b10 b11 : Int) (h2 : Hp), m < k → I m b0 b1 b2 b3 b4 b5 b6 b7 b8 b9 b10 b11 h2 → K b0 b1 b2 b3 b4 b5 b6 b7 b8 b9 b10 b11 h2) → B K a0 a1 a2 a3 a4 a5 a6 a7 a8 a9 a10 a11 h) {k : Nat} {a0 a1 a2 a3 a4 a5 a6 a7 a8 a9 a10 a11 : Int} {h : Hp} (hI : I k a0 a1 a2 a3 a4 a5 a6 a7 a8 a9 a10 a11 h) : Lp12 B a0 a1 a2 a3 a4 a5 a6 a7 a8 a9 a10 a11 h := by
  have key : ∀ (N k : Nat) (a0 a1 a2 a3 a4 a5 a6 a7 a8 a9 a10 a11 : Int) (h : Hp), k ≤ N → I k a0 a1 a2 a3 a4 a5 a6 a7 a8 a9 a10 a11 h → it12 B (N + 1) a0 a1 a2 a3 a4 a5 a6 a7 a8 a9 a10 a11 h := by
    intro N
    induction N with
    | zero =>
      intro k a0 a1 a2 a3 a4 a5 a6 a7 a8 a9 a10 a11 h hk hi
      exact hs k a0 a1 a2 a3 a4 a5 a6 a7 a8 a9 a10 a11 h hi _ (fun m b0 b1 b2 b3 b4 b5 b6 b7 b8 b9 b10 b11 h2 hm _ => absurd hm (by omega))
    | succ N ih =>
      intro k a0 a1 a2 a3 a4 a5 a6 a7 a8 a9 a10 a11 h hk hi
      exact hs k a0 a1 a2 a3 a4 a5 a6 a7 a8 a9 a10 a11 h hi _ (fun m b0 b1 b2 b3 b4 b5 b6 b7 b8 b9 b10 b11 h2 hm hi2 => ih m b0 b1 b2 b3 b4 b5 b6 b7 b8 b9 b10 b11 h2 (by omega) hi2)
  exact ⟨k + 1, key k k a0 a1 a2 a3 a4 a5 a6 a7 a8 a9 a10 a11 h (Nat.le_refl k) hI⟩
