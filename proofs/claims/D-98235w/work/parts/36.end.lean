/-! LAYER 2: what the twin says of an evening that has gone by -/
def fateF (e : Int → Int) (p : Int) : Int := if e (12 + 8 * p + 0) = 2 then 0 else if e (12 + 8 * p + 0) = 3 then (if e (12 + 8 * p + 4) = -2 then 1 else 0) else if e (12 + 8 * p + 0) = 4 then 2 else if e (12 + 8 * p + 0) = 5 then 4 else 3
def waitF (q e : Int → Int) (bell p : Int) : Int := if fateF e p = 4 then -2 else (if e (12 + 8 * p + 4) ≠ -2 then e (12 + 8 * p + 4) else if e (12 + 8 * p + 7) ≠ -2 then e (12 + 8 * p + 7) else bell) - q (7 * p + 2)
abbrev behind (q : Int → Int) (a b : Int) : Prop := q (7 * b + 2) < q (7 * a + 2) ∨ (q (7 * a + 2) = q (7 * b + 2) ∧ b < a)
abbrev pasT (q e : Int → Int) (p x : Int) : Prop := behind q x p ∧ q (7 * p + 2) ≤ e (12 + 8 * x + 4) ∧ ¬ (e (12 + 8 * p + 7) ≠ -2 ∧ e (12 + 8 * p + 7) ≤ e (12 + 8 * x + 4))
def stK (e : Int → Int) (p : Int) : Nat → Nat
  | 0 => 0
  | k + 1 => if stK e p k = k ∧ e (2 + k) ≠ p then k + 1 else stK e p k
def pasN (q e : Int → Int) (p : Int) : Nat → Int
  | 0 => 0
  | k + 1 => if pasT q e p (e (2 + k)) then bOr (pasN q e p k) (bShl 1 (e (2 + k))) else pasN q e p k
def pasF (q e : Int → Int) (p : Int) : Int := pasN q e p (stK e p (e 1).toNat)
def pusN (q e : Int → Int) (p : Int) : Nat → Int
  | 0 => 0
  | j + 1 => if (j : Int) ≠ p ∧ behind q p j ∧ bAnd (bShr (pasF q e j) p) 1 = 1 then bOr (pusN q e p j) (bShl 1 j) else pusN q e p j
def pusF (q e : Int → Int) (n : Nat) (p : Int) : Int := if e (12 + 8 * p + 4) = -2 then 0 else pusN q e p n
def costF (r : Int → Int) (p : Int) : Int := sumN (fun d => r (111 + 5 * p + d) * r (8 + 3 * d + 2)) 5
def onesF (x : Int) : Int := sumN (fun k => bAnd (bShr x k) 1) 10
def sumT (r q e : Int → Int) (bell what p : Int) : Int :=
  if e (12 + 8 * p + 0) = 0 then 0
  else if what = 0 then (if fateF e p < 2 then 1 else 0)
  else if what = 1 then (if fateF e p = 2 then 1 else 0)
  else if what = 2 then (if fateF e p = 3 then 1 else 0)
  else if what = 3 then (if fateF e p = 4 then 0 else waitF q e bell p)
  else if what = 4 then onesF (pasF q e p)
  else (if fateF e p < 2 then costF r p else 0)
def sumF (r q e : Int → Int) (bell what : Int) : Int := sumN (fun p => sumT r q e bell what p) (r 5).toNat
theorem sumN_ab {f : Nat → Int} {B : Int} : ∀ (n : Nat), (∀ j, j < n → -B ≤ f j ∧ f j ≤ B) → -(B * n) ≤ sumN f n ∧ sumN f n ≤ B * n
  | 0, _ => by simp [sumN]
  | n + 1, h => by
    have h1 := sumN_ab n (fun j hj => h j (by omega))
    have h2 := h n (by omega)
    have e : B * ((n + 1 : Nat) : Int) = B * n + B := by rw [Int.natCast_add, Int.mul_add]; simp
    simp only [sumN]
    omega
theorem fateF_b (e : Int → Int) (p : Int) : 0 ≤ fateF e p ∧ fateF e p ≤ 4 := by
  unfold fateF
  repeat' split
  all_goals omega
theorem costF_b {r : Int → Int} (HO : HouseOK r) {p : Int} (hp : 0 ≤ p ∧ p < 10) : 0 ≤ costF r p ∧ costF r p ≤ 4455 := by
  have := sumN_b (f := fun d => r (111 + 5 * p + d) * r (8 + 3 * d + 2)) (B := 891) 5 (fun j hj => mulB (HO.wants p j hp.1 hp.2 (by omega) (by omega)) (HO.costs j (by omega) (by omega)))
  unfold costF; omega
theorem onesF_b (x : Int) : 0 ≤ onesF x ∧ onesF x ≤ 10 := sumN_01 10 (fun j hj => hb_01 x (by omega))
theorem waitF_b {q e : Int → Int} {B bell p : Int} (hB : 10000 ≤ B ∧ B ≤ 100000) (P : PplOK q) (R : RowOK B e) (hb : 0 ≤ bell ∧ bell ≤ 900) (hp : 0 ≤ p ∧ p < 10) : -110000 ≤ waitF q e bell p ∧ waitF q e bell p ≤ 110000 := by
  have h1 := R.cells (12 + 8 * p + 4)
  have h2 := R.cells (12 + 8 * p + 7)
  have h3 := P.comes p hp.1 hp.2
  unfold waitF
  split
  · omega
  split
  · omega
  split <;> omega
theorem stK_le (e : Int → Int) (p : Int) : ∀ k : Nat, stK e p k ≤ k ∧ (stK e p k < k → e (2 + stK e p k) = p) ∧ ∀ j, j < stK e p k → e (2 + j) ≠ p
  | 0 => ⟨Nat.le_refl _, fun h => absurd h (Nat.lt_irrefl 0), fun j h => absurd h (Nat.not_lt_zero _)⟩
  | k + 1 => by
    obtain ⟨h1, h2, h3⟩ := stK_le e p k
    by_cases c : stK e p k = k ∧ e (2 + k) ≠ p
    · rw [show stK e p (k + 1) = k + 1 from if_pos c]
      refine ⟨Nat.le_refl _, fun h => absurd h (Nat.lt_irrefl _), fun j hj => ?_⟩
      by_cases z : j = k
      · rw [z]; exact c.2
      · exact h3 j (by omega)
    · rw [show stK e p (k + 1) = stK e p k from if_neg c]
      refine ⟨by omega, fun _ => ?_, h3⟩
      by_cases z : stK e p k = k
      · rw [z]
        exact Classical.byContradiction (fun w => c ⟨z, w⟩)
      · exact h2 (by omega)
theorem i32_pasN (q e : Int → Int) (p : Int) : ∀ k, i32 (pasN q e p k)
  | 0 => by unfold i32 pasN; omega
  | k + 1 => by
    by_cases c : pasT q e p (e (2 + k))
    · rw [show pasN q e p (k + 1) = _ from if_pos c]; exact i32_bOr _ _
    · rw [show pasN q e p (k + 1) = _ from if_neg c]; exact i32_pasN q e p k
section EV
variable {h : Hp} {M : Int} {F : Nat → Int} {A : Int → Int → Int} {e : Int → Int} {Q : Int → Hp → Prop} {Qv : Hp → Prop} {B : Int}
theorem t_fateOf {p : Int} (hp : 0 ≤ p ∧ p < 10) (hq : Q (fateF e p) (RW h M F A 6 e)) : g_X4_fateOf M p Q (RW h M F A 6 e) := by
  unfold fateF at hq
  unfold g_X4_fateOf g_X4_fateOf_b61
  refine t_its (Or.inr rfl) hp ⟨by omega, by omega⟩ (fun _ => ⟨fun c => ?_, fun c => ?_, fun c => ?_, fun c => ?_, fun c => ?_⟩)
  · rw [if_pos c] at hq; exact hq
  · rw [if_neg (by omega), if_pos c] at hq
    refine t_its (Or.inr rfl) hp ⟨by omega, by omega⟩ (fun _ => ⟨fun c2 => ?_, fun c2 => ?_⟩)
    · rw [if_neg c2] at hq; exact hq
    · rw [if_pos c2] at hq; exact hq
  · rw [if_neg (by omega), if_neg (by omega), if_pos c] at hq; exact hq
  · rw [if_neg (by omega), if_neg (by omega), if_neg (by omega), if_pos c] at hq; exact hq
  · rw [if_neg c.1, if_neg c.2.1, if_neg c.2.2.1, if_neg c.2.2.2] at hq; exact hq
theorem t_waitOf {p : Int} (hB : 10000 ≤ B ∧ B ≤ 100000) (P : PplOK (A 10)) (R : RowOK B e) (hb : 0 ≤ F 26 ∧ F 26 ≤ 900) (hp : 0 ≤ p ∧ p < 10) (hq : Q (waitF (A 10) e (F 26) p) (RW h M F A 6 e)) : g_X4_waitOf M p Q (RW h M F A 6 e) := by
  have h1 := R.cells (12 + 8 * p + 4)
  have h2 := R.cells (12 + 8 * p + 7)
  have h3 := P.comes p hp.1 hp.2
  unfold waitF at hq
  unfold g_X4_waitOf g_X4_waitOf_b70
  refine t_fateOf hp (fun _ => ⟨fun c => ?_, fun c => ?_⟩)
  · rw [if_neg c] at hq
    refine t_its (Or.inr rfl) hp ⟨by omega, by omega⟩ (fun _ => ⟨fun c2 => ?_, fun c2 => ?_⟩)
    · rw [if_neg (by omega)] at hq
      refine t_its (Or.inr rfl) hp ⟨by omega, by omega⟩ (fun _ => ⟨fun c3 => ?_, fun c3 => ?_⟩)
      · rw [if_neg (by omega)] at hq
        rw [RW_F]
        exact t_man (Or.inr rfl) hp ⟨by omega, by omega⟩ (fun _ => ⟨(by first | omega | (unfold i32; omega)), hq⟩)
      · rw [if_pos c3] at hq
        exact t_its (Or.inr rfl) hp ⟨by omega, by omega⟩ (fun _ => t_man (Or.inr rfl) hp ⟨by omega, by omega⟩ (fun _ => ⟨(by first | omega | (unfold i32; omega)), hq⟩))
    · rw [if_pos c2] at hq
      exact t_its (Or.inr rfl) hp ⟨by omega, by omega⟩ (fun _ => t_man (Or.inr rfl) hp ⟨by omega, by omega⟩ (fun _ => ⟨(by first | omega | (unfold i32; omega)), hq⟩))
  · rw [if_pos c] at hq; exact hq
theorem t_isBehind {k a b : Int} {row : Int → Int} (hk : k = 5 ∨ k = 6) (ha : 0 ≤ a ∧ a < 10) (hb : 0 ≤ b ∧ b < 10) (hq : Q (if behind (A 10) a b then 1 else 0) (RW h M F A k row)) : g_X4_isBehind M a b Q (RW h M F A k row) := by
  unfold g_X4_isBehind g_X4_isBehind_b35 g_X4_isBehind_b39 g_X4_isBehind_b40
  refine t_man hk ha ⟨by omega, by omega⟩ (fun _ => t_man hk hb ⟨by omega, by omega⟩ (fun _ => ⟨fun c => ⟨Or.inr rfl, ?_⟩, fun c => t_man hk ha ⟨by omega, by omega⟩ (fun _ => t_man hk hb ⟨by omega, by omega⟩ (fun _ => ⟨fun c2 => ⟨Or.inl rfl, ?_⟩, fun c2 => ⟨fun c3 => ⟨Or.inl rfl, ?_⟩, fun c3 => ⟨Or.inr rfl, ?_⟩⟩⟩))⟩))
  · rw [if_pos (Or.inl c)] at hq; exact hq
  · rw [if_neg (by omega)] at hq; exact hq
  · rw [if_neg (by omega)] at hq; exact hq
  · rw [if_pos (Or.inr ⟨c2, c3⟩)] at hq; exact hq
theorem t_hasBit {x k : Int} {H : Hp} (hq : Q (if bAnd (bShr x k) 1 = 1 then 1 else 0) H) : g_X4_hasBit x k Q H := by
  unfold g_X4_hasBit g_X4_hasBit_b14
  refine ⟨fun c => ⟨Or.inl rfl, ?_⟩, fun c => ⟨Or.inr rfl, ?_⟩⟩
  · rw [if_neg c] at hq; exact hq
  · rw [if_pos c] at hq; exact hq
theorem t_ones {x : Int} {H : Hp} (hq : Q (onesF x) H) : g_X4_ones x Q H := by
  unfold g_X4_ones
  refine Lp2_for 10 0 (sumN (fun k => bAnd (bShr x k) 1)) (fun _ => H) (fun K j hj hK => ?_) (fun K => ?_)
  · have h1 := sumN_01 (f := fun k => bAnd (bShr x k) 1) j (fun i hi => hb_01 x (by omega))
    have h2 := hb_01 x (k := j) (by omega)
    rw [Int.zero_add]
    unfold g_X4_ones_L4
    refine ⟨fun c => absurd c (by omega), fun c => ⟨(by first | omega | (unfold i32; omega)), ?_⟩⟩
    rintro y17 rfl
    exact ⟨(by first | omega | (unfold i32; omega)), fun y e => hK _ _ _ rfl (by omega) rfl⟩
  · unfold g_X4_ones_L4 g_X4_ones_b24
    exact ⟨fun _ => hq, fun c => absurd c (by omega)⟩
theorem t_costsOf {k : Int} {row : Int → Int} (hk : k = 5 ∨ k = 6) (HO : HouseOK (A 3)) {p : Int} (hp : 0 ≤ p ∧ p < 10) (hq : Q (costF (A 3) p) (RW h M F A k row)) : g_X4_costsOf M p Q (RW h M F A k row) := by
  unfold g_X4_costsOf
  have hb : ∀ d : Int, 0 ≤ d → d < 5 → 0 ≤ A 3 (111 + 5 * p + d) * A 3 (8 + 3 * d + 2) ∧ A 3 (111 + 5 * p + d) * A 3 (8 + 3 * d + 2) ≤ 891 := fun d h1 h2 => mulB (HO.wants p d hp.1 hp.2 h1 h2) (HO.costs d h1 h2)
  refine Lp2_for 5 0 (sumN (fun d => A 3 (111 + 5 * p + d) * A 3 (8 + 3 * d + 2))) (fun _ => RW h M F A k row) (fun K j hj hK => ?_) (fun K => ?_)
  · have h1 := sumN_b (f := fun d => A 3 (111 + 5 * p + d) * A 3 (8 + 3 * d + 2)) (B := 891) j (fun i hi => hb i (by omega) (by omega))
    have h2 := hb j (by omega) (by omega)
    rw [Int.zero_add]
    unfold g_X4_costsOf_L4
    refine ⟨fun c => absurd c (by omega), fun c => t_wantsOf hk hp ⟨by omega, by omega⟩ (fun _ => ?_)⟩
    simp only [RW_3 hk]
    refine ⟨(by first | omega | (unfold i32; omega)), (by first | omega | (unfold i32; omega)), (by first | omega | (unfold i32; omega)), (by first | omega | (unfold i32; omega)), (by first | omega | (unfold i32; omega)), (by first | omega | (unfold i32; omega)), ?_⟩
    rintro y31 rfl
    exact ⟨(by first | omega | (unfold i32; omega)), fun y e => hK _ _ _ rfl (by omega) rfl⟩
  · unfold g_X4_costsOf_L4 g_X4_costsOf_b38
    exact ⟨fun _ => hq, fun c => absurd c (by omega)⟩
theorem t_passedOf {p : Int} (P : PplOK (A 10)) (R : RowOK B e) (hp : 0 ≤ p ∧ p < 10) (hq : Q (pasF (A 10) e p) (RW h M F A 6 e)) : g_X4_passedOf M p Q (RW h M F A 6 e) := by
  have hk : (6 : Int) = 5 ∨ (6 : Int) = 6 := Or.inr rfl
  have hr := R.room
  have hs := R.served
  have hc := cw_b e
  obtain ⟨s1, s2, s3⟩ := stK_le e p (e 1).toNat
  unfold g_X4_passedOf
  refine Lp2_for (stK e p (e 1).toNat) 0 (pasN (A 10) e p) (fun _ => RW h M F A 6 e) (fun K j hj hK => ?_) (fun K => ?_)
  · have hx := R.who j (by omega) (by omega)
    have hne := s3 j hj
    rw [Int.zero_add]
    unfold g_X4_passedOf_L4 g_X4_passedOf_b78
    simp only [RW_k hk]
    refine ⟨fun c => absurd c (by omega), fun c => ⟨(by first | omega | (unfold i32; omega)), (by first | omega | (unfold i32; omega)), ?_⟩⟩
    rintro y22 rfl
    have no : ¬ pasT (A 10) e p (e (2 + j)) → (i32 ((j : Int) + 1)) ∧ (∀ y : Int, y = (j : Int) + 1 → (K (pasN (A 10) e p j) y (RW h M F A 6 e))) := fun c => ⟨(by first | omega | (unfold i32; omega)), fun y ey => hK _ _ _ (by rw [show pasN (A 10) e p (j + 1) = pasN (A 10) e p j from if_neg c]) (by omega) rfl⟩
    have yes : pasT (A 10) e p (e (2 + j)) → ∀ y113 : Int, y113 = bOr (pasN (A 10) e p j) (bShl 1 (e (2 + j))) → (i32 ((j : Int) + 1)) ∧ (∀ y : Int, y = (j : Int) + 1 → (K y113 y (RW h M F A 6 e))) := fun c y113 e113 => ⟨(by first | omega | (unfold i32; omega)), fun y ey => hK _ _ _ (by rw [e113, show pasN (A 10) e p (j + 1) = _ from if_pos c]) (by omega) rfl⟩
    have rest : ∀ s0 : Int, (s0 ≠ 0 ↔ (e (12 + 8 * p + 7) ≠ -2 ∧ e (12 + 8 * p + 7) ≤ e (12 + 8 * e (2 + j) + 4))) → g_X4_passedOf_b79 M p Q K (pasN (A 10) e p j) j (e (2 + j)) (e (12 + 8 * e (2 + j) + 4)) s0 (RW h M F A 6 e) := by
      intro s0 h0
      unfold g_X4_passedOf_b79 g_X4_passedOf_b114
      refine t_isBehind hk hx hp (fun _ => ⟨fun c1 => no (fun z => ?_), fun c1 => t_man hk hp ⟨by omega, by omega⟩ (fun _ => ⟨fun c2 => no (fun z => ?_), fun c2 => ⟨fun c3 => no (fun z => z.2.2 (h0.mp c3)), fun c3 => yes ⟨?_, c2, fun z => (h0.mpr z) c3⟩⟩⟩)⟩)
      · rw [if_pos z.1] at c1; omega
      · have := z.2.1; omega
      · by_cases z : behind (A 10) (e (2 + j)) p
        · exact z
        · rw [if_neg z] at c1; exact absurd rfl c1
    refine ⟨fun c1 => t_its hk hx ⟨by omega, by omega⟩ (fun _ => t_its hk hp ⟨by omega, by omega⟩ (fun _ => ⟨fun c2 => rest 0 ?_, fun c2 => t_its hk hp ⟨by omega, by omega⟩ (fun _ => ⟨fun c3 => rest 0 ?_, fun c3 => rest 1 ?_⟩)⟩)), fun c1 => absurd c1 hne⟩
    · omega
    · omega
    · omega
  · unfold g_X4_passedOf_L4 g_X4_passedOf_b120 g_X4_passedOf_b30
    simp only [RW_k hk]
    refine ⟨fun _ => hq, fun c => ⟨(by first | omega | (unfold i32; omega)), (by first | omega | (unfold i32; omega)), ?_⟩⟩
    rintro y22 rfl
    have := s2 (by omega)
    rw [Int.zero_add]
    exact ⟨fun c1 => absurd this c1, fun _ => hq⟩
theorem t_pushedOf {p : Int} (HO : HouseOK (A 3)) (P : PplOK (A 10)) (R : RowOK B e) (hp : 0 ≤ p ∧ p < 10) (hq : Q (pusF (A 10) e (A 3 5).toNat p) (RW h M F A 6 e)) : g_X4_pushedOf M p Q (RW h M F A 6 e) := by
  have hk : (6 : Int) = 5 ∨ (6 : Int) = 6 := Or.inr rfl
  have hn := HO.pm
  unfold pusF at hq
  unfold g_X4_pushedOf
  refine t_its hk hp ⟨by omega, by omega⟩ (fun _ => ⟨fun c0 => ?_, fun c0 => by rw [if_pos c0] at hq; exact hq⟩)
  rw [if_neg c0] at hq
  refine Lp2_for (A 3 5).toNat 0 (pusN (A 10) e p) (fun _ => RW h M F A 6 e) (fun K j hj hK => ?_) (fun K => ?_)
  · rw [Int.zero_add]
    unfold g_X4_pushedOf_L20 g_X4_pushedOf_b62
    simp only [RW_3 hk]
    have hj10 : 0 ≤ (j : Int) ∧ (j : Int) < 10 := ⟨by omega, by omega⟩
    have no : ¬ ((j : Int) ≠ p ∧ behind (A 10) p j ∧ bAnd (bShr (pasF (A 10) e j) p) 1 = 1) → (i32 ((j : Int) + 1)) ∧ (∀ y : Int, y = (j : Int) + 1 → (K (pusN (A 10) e p j) y (RW h M F A 6 e))) := fun c => ⟨(by first | omega | (unfold i32; omega)), fun y ey => hK _ _ _ (by rw [show pusN (A 10) e p (j + 1) = pusN (A 10) e p j from if_neg c]) (by omega) rfl⟩
    refine ⟨fun c => absurd c (by omega), fun c => ⟨fun c1 => no (fun z => z.1 c1), fun c1 => t_isBehind hk hp hj10 (fun _ => ⟨fun c2 => no (fun z => ?_), fun c2 => t_passedOf P R hj10 (fun _ => t_hasBit (fun _ => ⟨fun c3 => no (fun z => ?_), fun c3 => ?_⟩))⟩)⟩⟩
    · rw [if_pos z.2.1] at c2; omega
    · rw [if_pos z.2.2] at c3; omega
    · rintro y61 rfl
      refine ⟨(by first | omega | (unfold i32; omega)), fun y ey => hK _ _ _ ?_ (by omega) rfl⟩
      rw [show pusN (A 10) e p (j + 1) = _ from if_pos ⟨c1, ?_, ?_⟩]
      · by_cases z : behind (A 10) p j
        · exact z
        · rw [if_neg z] at c2; exact absurd rfl c2
      · by_cases z : bAnd (bShr (pasF (A 10) e j) p) 1 = 1
        · exact z
        · rw [if_neg z] at c3; exact absurd rfl c3
  · unfold g_X4_pushedOf_L20 g_X4_pushedOf_b68
    simp only [RW_3 hk]
    exact ⟨fun _ => hq, fun c => absurd c (by omega)⟩
end EV
