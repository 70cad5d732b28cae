/-! LAYER 2: loops that count, sums, the twin's small methods -/
def sumN (f : Nat → Int) : Nat → Int
  | 0 => 0
  | n + 1 => sumN f n + f n
theorem Lp1_for {B : (Int → Hp → Prop) → Int → Hp → Prop} (n : Nat) (i0 : Int) (Hs : Nat → Hp)
    (step : ∀ (K : Int → Hp → Prop) (j : Nat), j < n → (∀ (i : Int) (h : Hp), i = i0 + j + 1 → h = Hs (j + 1) → K i h) → B K (i0 + j) (Hs j))
    (fin : ∀ K : Int → Hp → Prop, B K (i0 + n) (Hs n)) : Lp1 B i0 (Hs 0) := by
  refine Lp1_ind (k := n) (fun k i h => ∃ j : Nat, j ≤ n ∧ k = n - j ∧ i = i0 + j ∧ h = Hs j) ?_ ⟨0, by omega, by omega, by simp, rfl⟩
  rintro k i h ⟨j, hj, hk, rfl, rfl⟩ K hK
  by_cases e : j = n
  · subst e; exact fin K
  · refine step K j (by omega) (fun i h hi hh => hK (n - (j + 1)) i h (by omega) ⟨j + 1, by omega, rfl, by rw [hi]; simp [Int.add_assoc], hh⟩)
theorem Lp2_for {B : (Int → Int → Hp → Prop) → Int → Int → Hp → Prop} (n : Nat) (i0 : Int) (acc : Nat → Int) (Hs : Nat → Hp)
    (step : ∀ (K : Int → Int → Hp → Prop) (j : Nat), j < n → (∀ (a i : Int) (h : Hp), a = acc (j + 1) → i = i0 + j + 1 → h = Hs (j + 1) → K a i h) → B K (acc j) (i0 + j) (Hs j))
    (fin : ∀ K : Int → Int → Hp → Prop, B K (acc n) (i0 + n) (Hs n)) : Lp2 B (acc 0) i0 (Hs 0) := by
  refine Lp2_ind (k := n) (fun k a i h => ∃ j : Nat, j ≤ n ∧ k = n - j ∧ a = acc j ∧ i = i0 + j ∧ h = Hs j) ?_ ⟨0, by omega, by omega, rfl, by simp, rfl⟩
  rintro k a i h ⟨j, hj, hk, rfl, rfl, rfl⟩ K hK
  by_cases e : j = n
  · subst e; exact fin K
  · refine step K j (by omega) (fun a i h ha hi hh => hK (n - (j + 1)) a i h (by omega) ⟨j + 1, by omega, rfl, ha, by rw [hi]; simp [Int.add_assoc], hh⟩)
theorem Lp3_for {B : (Int → Int → Int → Hp → Prop) → Int → Int → Int → Hp → Prop} (n : Nat) (i0 : Int) (ac1 ac2 : Nat → Int) (Hs : Nat → Hp)
    (step : ∀ (K : Int → Int → Int → Hp → Prop) (j : Nat), j < n → (∀ (a b i : Int) (h : Hp), a = ac1 (j + 1) → b = ac2 (j + 1) → i = i0 + j + 1 → h = Hs (j + 1) → K a b i h) → B K (ac1 j) (ac2 j) (i0 + j) (Hs j))
    (fin : ∀ K : Int → Int → Int → Hp → Prop, B K (ac1 n) (ac2 n) (i0 + n) (Hs n)) : Lp3 B (ac1 0) (ac2 0) i0 (Hs 0) := by
  refine Lp3_ind (k := n) (fun k a b i h => ∃ j : Nat, j ≤ n ∧ k = n - j ∧ a = ac1 j ∧ b = ac2 j ∧ i = i0 + j ∧ h = Hs j) ?_ ⟨0, by omega, by omega, rfl, rfl, by simp, rfl⟩
  rintro k a b i h ⟨j, hj, hk, rfl, rfl, rfl, rfl⟩ K hK
  by_cases e : j = n
  · subst e; exact fin K
  · refine step K j (by omega) (fun a b i h ha hb hi hh => hK (n - (j + 1)) a b i h (by omega) ⟨j + 1, by omega, rfl, ha, hb, by rw [hi]; simp [Int.add_assoc], hh⟩)
theorem mulB {a b A B : Int} (h1 : 0 ≤ a ∧ a ≤ A) (h2 : 0 ≤ b ∧ b ≤ B) : 0 ≤ a * b ∧ a * b ≤ A * B :=
  ⟨Int.mul_nonneg h1.1 h2.1, Int.mul_le_mul h1.2 h2.2 h2.1 (by omega)⟩
/-! what a house is as told, and its bounds -/
def HouseOK (r : Int → Int) : Prop := (r 0 = 1) ∧ (1 ≤ r 1 ∧ r 1 ≤ 20) ∧ (1 ≤ r 2 ∧ r 2 ≤ 600) ∧ (1 ≤ r 3 ∧ r 3 ≤ 5) ∧ (1 ≤ r 4 ∧ r 4 ≤ 3) ∧ (1 ≤ r 5 ∧ r 5 ≤ 10) ∧ (0 ≤ r 6 ∧ r 6 ≤ 10) ∧ (0 ≤ r 7 ∧ r 7 ≤ 8) ∧ (∀ d : Int, 0 ≤ d → d < 5 → 0 ≤ r (8 + 3 * d) ∧ r (8 + 3 * d) ≤ 90) ∧ (∀ d : Int, 0 ≤ d → d < 5 → 0 ≤ r (8 + 3 * d + 1) ∧ r (8 + 3 * d + 1) ≤ r (8 + 3 * d)) ∧ (∀ d : Int, 0 ≤ d → d < 5 → 0 ≤ r (8 + 3 * d + 2) ∧ r (8 + 3 * d + 2) ≤ 99) ∧ (∀ p d : Int, 0 ≤ p → p < 10 → 0 ≤ d → d < 5 → 0 ≤ r (111 + 5 * p + d) ∧ r (111 + 5 * p + d) ≤ 9) ∧ (∀ p d : Int, 0 ≤ p → p < 10 → r 3 ≤ d → d < 5 → r (111 + 5 * p + d) = 0) ∧ (∀ k j : Int, 0 ≤ k → k < 8 → 0 ≤ j → j < 3 → 0 ≤ r (161 + 3 * k + j) ∧ r (161 + 3 * k + j) < r 5) ∧ (∀ s : Int, 0 ≤ s → s < 3 → 0 ≤ r (23 + (6 * s + 0)) ∧ r (23 + (6 * s + 0)) ≤ 4) ∧ (∀ s : Int, 0 ≤ s → s < 3 → 0 ≤ r (23 + (6 * s + 1)) ∧ r (23 + (6 * s + 1)) ≤ 19) ∧ (∀ s : Int, 0 ≤ s → s < 3 → 0 ≤ r (23 + (6 * s + 2)) ∧ r (23 + (6 * s + 2)) ≤ 19) ∧ (∀ s : Int, 0 ≤ s → s < 3 → 0 ≤ r (23 + (6 * s + 3)) ∧ r (23 + (6 * s + 3)) ≤ 19) ∧ (∀ s : Int, 0 ≤ s → s < 3 → 0 ≤ r (23 + (6 * s + 4)) ∧ r (23 + (6 * s + 4)) ≤ 9) ∧ (∀ s : Int, 0 ≤ s → s < 3 → 0 ≤ r (23 + (6 * s + 5)) ∧ r (23 + (6 * s + 5)) ≤ 2) ∧ (∀ p : Int, 0 ≤ p → p < 10 → 0 ≤ r (41 + (7 * p + 0)) ∧ r (41 + (7 * p + 0)) ≤ 3) ∧ (∀ p : Int, 0 ≤ p → p < 10 → 0 ≤ r (41 + (7 * p + 1)) ∧ r (41 + (7 * p + 1)) ≤ 99) ∧ (∀ p : Int, 0 ≤ p → p < 10 → 0 ≤ r (41 + (7 * p + 2)) ∧ r (41 + (7 * p + 2)) ≤ 600) ∧ (∀ p : Int, 0 ≤ p → p < 10 → 0 ≤ r (41 + (7 * p + 3)) ∧ r (41 + (7 * p + 3)) ≤ 19) ∧ (∀ p : Int, 0 ≤ p → p < 10 → 0 ≤ r (41 + (7 * p + 4)) ∧ r (41 + (7 * p + 4)) ≤ 600) ∧ (∀ p : Int, 0 ≤ p → p < 10 → 0 ≤ r (41 + (7 * p + 5)) ∧ r (41 + (7 * p + 5)) ≤ 99) ∧ (∀ p : Int, 0 ≤ p → p < 10 → 0 ≤ r (41 + (7 * p + 6)) ∧ r (41 + (7 * p + 6)) ≤ 601)
theorem HouseOK.has {r : Int → Int} (H : HouseOK r) : r 0 = 1 := H.1
theorem HouseOK.long {r : Int → Int} (H : HouseOK r) : 1 ≤ r 1 ∧ r 1 ≤ 20 := H.2.1
theorem HouseOK.bell {r : Int → Int} (H : HouseOK r) : 1 ≤ r 2 ∧ r 2 ≤ 600 := H.2.2.1
theorem HouseOK.dm {r : Int → Int} (H : HouseOK r) : 1 ≤ r 3 ∧ r 3 ≤ 5 := H.2.2.2.1
theorem HouseOK.sm {r : Int → Int} (H : HouseOK r) : 1 ≤ r 4 ∧ r 4 ≤ 3 := H.2.2.2.2.1
theorem HouseOK.pm {r : Int → Int} (H : HouseOK r) : 1 ≤ r 5 ∧ r 5 ≤ 10 := H.2.2.2.2.2.1
theorem HouseOK.hm {r : Int → Int} (H : HouseOK r) : 0 ≤ r 6 ∧ r 6 ≤ 10 := H.2.2.2.2.2.2.1
theorem HouseOK.tm {r : Int → Int} (H : HouseOK r) : 0 ≤ r 7 ∧ r 7 ≤ 8 := H.2.2.2.2.2.2.2.1
theorem HouseOK.takes {r : Int → Int} (H : HouseOK r) : ∀ d : Int, 0 ≤ d → d < 5 → 0 ≤ r (8 + 3 * d) ∧ r (8 + 3 * d) ≤ 90 := H.2.2.2.2.2.2.2.2.1
theorem HouseOK.thn {r : Int → Int} (H : HouseOK r) : ∀ d : Int, 0 ≤ d → d < 5 → 0 ≤ r (8 + 3 * d + 1) ∧ r (8 + 3 * d + 1) ≤ r (8 + 3 * d) := H.2.2.2.2.2.2.2.2.2.1
theorem HouseOK.costs {r : Int → Int} (H : HouseOK r) : ∀ d : Int, 0 ≤ d → d < 5 → 0 ≤ r (8 + 3 * d + 2) ∧ r (8 + 3 * d + 2) ≤ 99 := H.2.2.2.2.2.2.2.2.2.2.1
theorem HouseOK.wants {r : Int → Int} (H : HouseOK r) : ∀ p d : Int, 0 ≤ p → p < 10 → 0 ≤ d → d < 5 → 0 ≤ r (111 + 5 * p + d) ∧ r (111 + 5 * p + d) ≤ 9 := H.2.2.2.2.2.2.2.2.2.2.2.1
theorem HouseOK.wants0 {r : Int → Int} (H : HouseOK r) : ∀ p d : Int, 0 ≤ p → p < 10 → r 3 ≤ d → d < 5 → r (111 + 5 * p + d) = 0 := H.2.2.2.2.2.2.2.2.2.2.2.2.1
theorem HouseOK.tells {r : Int → Int} (H : HouseOK r) : ∀ k j : Int, 0 ≤ k → k < 8 → 0 ≤ j → j < 3 → 0 ≤ r (161 + 3 * k + j) ∧ r (161 + 3 * k + j) < r 5 := H.2.2.2.2.2.2.2.2.2.2.2.2.2.1
theorem HouseOK.rule {r : Int → Int} (H : HouseOK r) : ∀ s : Int, 0 ≤ s → s < 3 → 0 ≤ r (23 + (6 * s + 0)) ∧ r (23 + (6 * s + 0)) ≤ 4 := H.2.2.2.2.2.2.2.2.2.2.2.2.2.2.1
theorem HouseOK.stands {r : Int → Int} (H : HouseOK r) : ∀ s : Int, 0 ≤ s → s < 3 → 0 ≤ r (23 + (6 * s + 1)) ∧ r (23 + (6 * s + 1)) ≤ 19 := H.2.2.2.2.2.2.2.2.2.2.2.2.2.2.2.1
theorem HouseOK.frm {r : Int → Int} (H : HouseOK r) : ∀ s : Int, 0 ≤ s → s < 3 → 0 ≤ r (23 + (6 * s + 2)) ∧ r (23 + (6 * s + 2)) ≤ 19 := H.2.2.2.2.2.2.2.2.2.2.2.2.2.2.2.2.1
theorem HouseOK.til {r : Int → Int} (H : HouseOK r) : ∀ s : Int, 0 ≤ s → s < 3 → 0 ≤ r (23 + (6 * s + 3)) ∧ r (23 + (6 * s + 3)) ≤ 19 := H.2.2.2.2.2.2.2.2.2.2.2.2.2.2.2.2.2.1
theorem HouseOK.step {r : Int → Int} (H : HouseOK r) : ∀ s : Int, 0 ≤ s → s < 3 → 0 ≤ r (23 + (6 * s + 4)) ∧ r (23 + (6 * s + 4)) ≤ 9 := H.2.2.2.2.2.2.2.2.2.2.2.2.2.2.2.2.2.2.1
theorem HouseOK.hands {r : Int → Int} (H : HouseOK r) : ∀ s : Int, 0 ≤ s → s < 3 → 0 ≤ r (23 + (6 * s + 5)) ∧ r (23 + (6 * s + 5)) ≤ 2 := H.2.2.2.2.2.2.2.2.2.2.2.2.2.2.2.2.2.2.2.1
theorem HouseOK.manner {r : Int → Int} (H : HouseOK r) : ∀ p : Int, 0 ≤ p → p < 10 → 0 ≤ r (41 + (7 * p + 0)) ∧ r (41 + (7 * p + 0)) ≤ 3 := H.2.2.2.2.2.2.2.2.2.2.2.2.2.2.2.2.2.2.2.2.1
theorem HouseOK.bys {r : Int → Int} (H : HouseOK r) : ∀ p : Int, 0 ≤ p → p < 10 → 0 ≤ r (41 + (7 * p + 1)) ∧ r (41 + (7 * p + 1)) ≤ 99 := H.2.2.2.2.2.2.2.2.2.2.2.2.2.2.2.2.2.2.2.2.2.1
theorem HouseOK.comes {r : Int → Int} (H : HouseOK r) : ∀ p : Int, 0 ≤ p → p < 10 → 0 ≤ r (41 + (7 * p + 2)) ∧ r (41 + (7 * p + 2)) ≤ 600 := H.2.2.2.2.2.2.2.2.2.2.2.2.2.2.2.2.2.2.2.2.2.2.1
theorem HouseOK.spot {r : Int → Int} (H : HouseOK r) : ∀ p : Int, 0 ≤ p → p < 10 → 0 ≤ r (41 + (7 * p + 3)) ∧ r (41 + (7 * p + 3)) ≤ 19 := H.2.2.2.2.2.2.2.2.2.2.2.2.2.2.2.2.2.2.2.2.2.2.2.1
theorem HouseOK.patience {r : Int → Int} (H : HouseOK r) : ∀ p : Int, 0 ≤ p → p < 10 → 0 ≤ r (41 + (7 * p + 4)) ∧ r (41 + (7 * p + 4)) ≤ 600 := H.2.2.2.2.2.2.2.2.2.2.2.2.2.2.2.2.2.2.2.2.2.2.2.2.1
theorem HouseOK.looks {r : Int → Int} (H : HouseOK r) : ∀ p : Int, 0 ≤ p → p < 10 → 0 ≤ r (41 + (7 * p + 5)) ∧ r (41 + (7 * p + 5)) ≤ 99 := H.2.2.2.2.2.2.2.2.2.2.2.2.2.2.2.2.2.2.2.2.2.2.2.2.2.1
theorem HouseOK.shelf {r : Int → Int} (H : HouseOK r) : ∀ p : Int, 0 ≤ p → p < 10 → 0 ≤ r (41 + (7 * p + 6)) ∧ r (41 + (7 * p + 6)) ≤ 601 := H.2.2.2.2.2.2.2.2.2.2.2.2.2.2.2.2.2.2.2.2.2.2.2.2.2.2
def tbT (r : Int → Int) (last p d : Int) : Int :=
  if r (111 + 5 * p + d) = 0 then 0 else r (111 + 5 * p + d) * r (8 + 3 * d + 1) + (if last < 0 ∨ r (111 + 5 * last + d) = 0 then r (8 + 3 * d) - r (8 + 3 * d + 1) else 0)
def tbF (r : Int → Int) (last p : Int) : Int := sumN (fun d => tbT r last p d) 5
theorem tbT_b {r : Int → Int} (HO : HouseOK r) {last p d : Int} (hp : 0 ≤ p ∧ p < 10) (hd : 0 ≤ d ∧ d < 5) : 0 ≤ tbT r last p d ∧ tbT r last p d ≤ 900 := by
  unfold tbT
  have h1 := HO.takes d hd.1 hd.2
  have h2 := HO.thn d hd.1 hd.2
  have h3 := HO.wants p d hp.1 hp.2 hd.1 hd.2
  have h4 := mulB h3 ⟨h2.1, (show r (8 + 3 * d + 1) ≤ 90 by omega)⟩
  split
  · omega
  · split <;> omega
theorem sumN_b {f : Nat → Int} {B : Int} : ∀ (n : Nat), (∀ j, j < n → 0 ≤ f j ∧ f j ≤ B) → 0 ≤ sumN f n ∧ sumN f n ≤ B * n
  | 0, _ => by simp [sumN]
  | n + 1, h => by
    have h1 := sumN_b n (fun j hj => h j (by omega))
    have h2 := h n (by omega)
    have e : B * ((n + 1 : Nat) : Int) = B * n + B := by rw [Int.natCast_add, Int.mul_add]; simp
    simp only [sumN]
    omega
theorem tbF_b {r : Int → Int} (HO : HouseOK r) {last p : Int} (hp : 0 ≤ p ∧ p < 10) : 0 ≤ tbF r last p ∧ tbF r last p ≤ 4500 := by
  have := sumN_b (f := fun d => tbT r last p d) (B := 900) 5 (fun j hj => tbT_b HO hp ⟨by omega, by omega⟩)
  unfold tbF
  omega
section TW
variable {h : Hp} {M : Int} {F : Nat → Int} {A : Int → Int → Int} {Q : Int → Hp → Prop}
theorem s_wantsOf {p d : Int} (hp : 0 ≤ p ∧ p < 10) (hd : 0 ≤ d ∧ d < 5) (hq : Q (A 3 (111 + 5 * p + d)) (blk h M 15 F A)) : g_X4_wantsOf M p d Q (blk h M 15 F A) := by
  unfold g_X4_wantsOf
  simp only [tw_3, tw_10]
  exact ⟨(by first | omega | (unfold i32; omega)), (by first | omega | (unfold i32; omega)), (by first | omega | (unfold i32; omega)), (by first | omega | (unfold i32; omega)), hq⟩
theorem s_man {p w : Int} (hp : 0 ≤ p ∧ p < 10) (hd : 0 ≤ w ∧ w < 7) (hq : Q (A 10 (7 * p + w)) (blk h M 15 F A)) : g_X4_man M p w Q (blk h M 15 F A) := by
  unfold g_X4_man
  simp only [tw_3, tw_10]
  exact ⟨(by first | omega | (unfold i32; omega)), (by first | omega | (unfold i32; omega)), (by first | omega | (unfold i32; omega)), hq⟩
theorem s_its {k p w : Int} (hk1 : 1 ≤ k) (hk2 : k ≤ 15) (hp : 0 ≤ p ∧ p < 10) (hd : 0 ≤ w ∧ w < 8) (hq : Q (A k (12 + 8 * p + w)) (blk h M 15 F A)) : g_X4_its (M + k) p w Q (blk h M 15 F A) := by
  unfold g_X4_its
  simp only [blk_A, hk1, hk2]
  exact ⟨(by first | omega | (unfold i32; omega)), (by first | omega | (unfold i32; omega)), (by first | omega | (unfold i32; omega)), (by first | omega | (unfold i32; omega)), hq⟩
theorem s_timeBehind (HO : HouseOK (A 3)) {last p : Int} (hl : last < 10) (hp : 0 ≤ p ∧ p < 10) (hq : Q (tbF (A 3) last p) (blk h M 15 F A)) : g_X4_timeBehind M last p Q (blk h M 15 F A) := by
  unfold g_X4_timeBehind
  refine Lp2_for 5 0 (sumN (fun d => tbT (A 3) last p d)) (fun _ => blk h M 15 F A) (fun K j hj hK => ?_) (fun K => ?_)
  · have hs := sumN_b (f := fun d => tbT (A 3) last p d) (B := 900) j (fun i hi => tbT_b HO hp ⟨by omega, by omega⟩)
    have hb := tbT_b HO (last := last) hp (d := (j : Int)) ⟨by omega, by omega⟩
    have h1 := HO.takes j (by omega) (by omega)
    have h2 := HO.thn j (by omega) (by omega)
    have h3 := HO.wants p j hp.1 hp.2 (by omega) (by omega)
    have h4 := mulB h3 ⟨h2.1, (show A 3 (8 + 3 * j + 1) ≤ 90 by omega)⟩
    rw [Int.zero_add]
    unfold g_X4_timeBehind_L5
    refine ⟨fun c => absurd c (by omega), fun c => s_wantsOf hp ⟨by omega, by omega⟩ (fun _ => ⟨fun c1 => ?_, fun c1 => ?_⟩)⟩
    · simp only [tw_3, tw_10]
      refine ⟨(by first | omega | (unfold i32; omega)), (by first | omega | (unfold i32; omega)), (by first | omega | (unfold i32; omega)), (by first | omega | (unfold i32; omega)), ?_⟩
      rintro y42 rfl
      refine ⟨(by first | omega | (unfold i32; omega)), (by first | omega | (unfold i32; omega)), ?_⟩
      rintro y51 rfl
      unfold g_X4_timeBehind_b66 g_X4_timeBehind_b84
      simp only [tw_3, tw_10]
      have e1 : ∀ c2 : last < 0 ∨ A 3 (111 + 5 * last + j) = 0, tbT (A 3) last p j = A 3 (111 + 5 * p + j) * A 3 (8 + 3 * j + 1) + (A 3 (8 + 3 * j) - A 3 (8 + 3 * j + 1)) := fun c2 => by
        unfold tbT; rw [if_neg c1, if_pos c2]
      refine ⟨fun c2 => ⟨(by first | omega | (unfold i32; omega)), (by first | omega | (unfold i32; omega)), (by first | omega | (unfold i32; omega)), (by first | omega | (unfold i32; omega)), (by first | omega | (unfold i32; omega)), ?_⟩, fun c2 => s_wantsOf ⟨c2, hl⟩ ⟨by omega, by omega⟩ (fun _ => ⟨fun c3 => ⟨(by first | omega | (unfold i32; omega)), ?_⟩, fun c3 => ?_⟩)⟩
      · rintro y83 rfl
        refine ⟨(by first | omega | (unfold i32; omega)), ?_⟩
        rintro y84 rfl
        exact hK _ _ _ (by simp only [sumN]; rw [e1 (Or.inl c2)]; omega) (by omega) rfl
      · rintro y84 rfl
        exact hK _ _ _ (by
          simp only [sumN]
          rw [show tbT (A 3) last p j = A 3 (111 + 5 * p + j) * A 3 (8 + 3 * j + 1) by unfold tbT; rw [if_neg c1, if_neg (by rintro (z | z); exact absurd z (by omega); exact c3 z)]; omega]) (by omega) rfl
      · simp only [tw_3]
        refine ⟨(by first | omega | (unfold i32; omega)), (by first | omega | (unfold i32; omega)), (by first | omega | (unfold i32; omega)), (by first | omega | (unfold i32; omega)), (by first | omega | (unfold i32; omega)), ?_⟩
        rintro y83 rfl
        refine ⟨(by first | omega | (unfold i32; omega)), ?_⟩
        rintro y84 rfl
        exact hK _ _ _ (by simp only [sumN]; rw [e1 (Or.inr c3)]; omega) (by omega) rfl
    · unfold g_X4_timeBehind_b84
      refine ⟨(by first | omega | (unfold i32; omega)), ?_⟩
      rintro y84 rfl
      exact hK _ _ _ (by simp only [sumN]; rw [show tbT (A 3) last p j = 0 by unfold tbT; rw [if_pos c1]]; omega) (by omega) rfl
  · unfold g_X4_timeBehind_L5 g_X4_timeBehind_b90
    exact ⟨fun _ => hq, fun c => absurd c (by simp)⟩
end TW
