/-! LAYER 2: whether the twin's set is at rest -/
def hoW (r : Int → Int) (set : Int) (p : Nat) : Int := waitF (ppl r) (hoE r set) (r 2) p
def arK (r : Int → Int) (set : Int) : Nat → Nat
  | 0 => 0
  | k + 1 => if arK r set k = k ∧ ¬ (hoW r (bXor set (bShl 1 k)) k < hoW r set k) then k + 1 else arK r set k
def arV (r : Int → Int) (set : Int) : Int := if arK r set (r 5).toNat = (r 5).toNat then 1 else 0
theorem arK_le (r : Int → Int) (set : Int) : ∀ k : Nat, arK r set k ≤ k ∧ (arK r set k < k → hoW r (bXor set (bShl 1 (arK r set k : Int))) (arK r set k) < hoW r set (arK r set k)) ∧ ∀ j : Nat, j < arK r set k → ¬ (hoW r (bXor set (bShl 1 j)) j < hoW r set j)
  | 0 => ⟨Nat.le_refl _, fun h => absurd h (Nat.lt_irrefl 0), fun j h => absurd h (Nat.not_lt_zero _)⟩
  | k + 1 => by
    obtain ⟨h1, h2, h3⟩ := arK_le r set k
    by_cases c : arK r set k = k ∧ ¬ (hoW r (bXor set (bShl 1 k)) k < hoW r set k)
    · rw [show arK r set (k + 1) = k + 1 from if_pos c]
      refine ⟨Nat.le_refl _, fun h => absurd h (Nat.lt_irrefl _), fun j hj => ?_⟩
      by_cases z : j = k
      · rw [z]; exact c.2
      · exact h3 j (by omega)
    · rw [show arK r set (k + 1) = arK r set k from if_neg c]
      refine ⟨by omega, fun _ => ?_, h3⟩
      by_cases z : arK r set k = k
      · rw [z]
        exact Classical.byContradiction (fun w => c ⟨z, w⟩)
      · exact h2 (by omega)
section EV
variable {h : Hp} {M : Int} {F : Nat → Int} {A : Int → Int → Int} {e : Int → Int} {Q : Int → Hp → Prop} {Qv : Hp → Prop} {B : Int}
theorem hoW_of {r q : Int → Int} {set p : Int} {j : Nat} (hqq : asP r q) (hp : p = j) (hj : j < 10) (n : Nat) : waitF (hoQ q set n) (hoE r set) (r 2) p = hoW r set j := by
  unfold hoW waitF
  rw [hp, hoQ_c, eqQ_as hqq (7 * (j : Int) + 2) (by omega) (by omega)]
theorem t_isAtRest {set : Int} {F1 : Nat → Int} {A1 : Int → Int → Int} (LY : Lay_X4 (blk h M 15 F1 A1) M) (hB : 10000 ≤ B ∧ B ≤ 100000) (HO : HouseOK (A 3)) (R : RowOK B (A 5)) (P : Post F A 0 F1 A1)
    (hq : ∀ (F' : Nat → Int) (A' : Int → Int → Int), Post F A 0 F' A' → Lof F1 F' → Q (arV (A 3) set) (blk h M 15 F' A')) : g_X4_isAtRest M set Q (blk h M 15 F1 A1) := by
  have hn := HO.pm
  have hbl := HO.bell
  unfold g_X4_isAtRest
  refine t_layHonest LY hB HO R P (fun q F2 A2 hqq P2 lo e10 e6 R6 e26 _ _ => ?_)
  have a3 : A2 3 = A 3 := P2.1.1.2.1
  have PQ : PplOK (A2 10) := by rw [e10]; exact hoQ_ok hqq.1 _
  refine Lp1_ind (k := (A 3 5).toNat) (fun m i h' => ∃ (j : Nat) (f : Int → Int), j ≤ (A 3 5).toNat ∧ m = (A 3 5).toNat - j ∧ i = j ∧ h' = blk h M 15 F2 (upR A2 12 f) ∧ ∀ t : Nat, t < j → f t = hoW (A 3) set t) ?_ ⟨0, A2 12, by omega, by omega, rfl, by
    rw [show upR A2 12 (A2 12) = A2 from by funext j; unfold upR; by_cases e : j = 12 <;> simp [e]], fun t ht => absurd ht (Nat.not_lt_zero _)⟩
  rintro m i h' ⟨j, f, hj, rfl, rfl, rfl, hf⟩ K hK
  unfold g_X4_isAtRest_L7
  rw [tw_3, show upR A2 12 f 3 = A 3 from a3]
  refine ⟨fun c => ?_, fun c => s_waitOf (A := upR A2 12 f) hB PQ R6 (by rw [e26]; omega) ⟨by omega, by omega⟩ (fun _ => ⟨(by first | omega | (unfold i32; omega)), ?_⟩)⟩
  · have ej : j = (A 3 5).toNat := by omega
    subst ej
    obtain ⟨k1, k2, k3⟩ := arK_le (A 3) set (A 3 5).toNat
    unfold g_X4_isAtRest_b34
    refine Lp1_ind (k := (A 3 5).toNat) (fun m i h' => ∃ (j : Nat) (F' : Nat → Int) (A' : Int → Int → Int), j ≤ arK (A 3) set (A 3 5).toNat ∧ m = (A 3 5).toNat - j ∧ i = j ∧ h' = blk h M 15 F' A' ∧ Post F A 0 F' A' ∧ Lof F1 F' ∧ ∀ t : Nat, t < (A 3 5).toNat → A' 12 t = hoW (A 3) set t) ?_ ⟨0, F2, upR A2 12 f, by omega, by omega, rfl, rfl, P2, lo, fun t ht => by rw [upR_eq]; exact hf t ht⟩
    rintro m i h' ⟨j, F', A', hj2, rfl, rfl, rfl, P3, lo3, h12⟩ K2 hK2
    unfold g_X4_isAtRest_L36 g_X4_isAtRest_b77 g_X4_isAtRest_b69
    rw [tw_3, P3.1.1.2.1]
    refine ⟨fun c2 => ?_, fun c2 => ?_⟩
    · have fin := hq F' A' P3 lo3
      rw [show arV (A 3) set = 1 from if_pos (by omega)] at fin
      exact fin
    · refine t_layHonest (lay_of LY lo3) hB HO R P3 (fun q4 F4 A4 hq4 P4 lo4 f10 f6 S6 f26 f12 _ => ?_)
      have PQ4 : PplOK (A4 10) := by rw [f10]; exact hoQ_ok hq4.1 _
      have lo5 : Lof F1 F4 := by
        obtain ⟨e1, e2, e3, e4, e5, e6, e7, e8, e9, e10, e11, e12, e13, e14, e15⟩ := lo3
        obtain ⟨g1, g2, g3, g4, g5, g6, g7, g8, g9, g10, g11, g12, g13, g14, g15⟩ := lo4
        exact ⟨g1.trans e1, g2.trans e2, g3.trans e3, g4.trans e4, g5.trans e5, g6.trans e6, g7.trans e7, g8.trans e8, g9.trans e9, g10.trans e10, g11.trans e11, g12.trans e12, g13.trans e13, g14.trans e14, g15.trans e15⟩
      refine s_waitOf hB PQ4 S6 (by rw [f26]; omega) ⟨by omega, by omega⟩ (fun _ => ?_)
      rw [f10, f6, f26, hoW_of hq4 rfl (by omega), tw_12, f12, h12 j (by omega)]
      refine ⟨(by first | omega | (unfold i32; omega)), fun c3 => ⟨(by first | omega | (unfold i32; omega)), fun y ey => hK2 ((A 3 5).toNat - (j + 1)) _ _ (by omega) ⟨j + 1, F4, A4, ?_, rfl, by omega, rfl, P4, lo5, fun t ht => by rw [f12]; exact h12 t ht⟩⟩, fun c3 => ?_⟩
      · by_cases z : j = arK (A 3) set (A 3 5).toNat
        · have := k2 (by omega)
          rw [← z] at this
          omega
        · omega
      · have fin := hq F4 A4 P4 lo5
        have z : j = arK (A 3) set (A 3 5).toNat := by
          by_cases z : j = arK (A 3) set (A 3 5).toNat
          · exact z
          · exact absurd c3 (k3 j (by omega))
        rw [show arV (A 3) set = 0 from if_neg (by omega)] at fin
        exact fin
  · rintro m27 rfl
    rw [tws_12, upR_up, upR_eq]
    refine ⟨(by first | omega | (unfold i32; omega)), fun y ey => hK ((A 3 5).toNat - (j + 1)) _ _ (by omega) ⟨j + 1, _, by omega, rfl, by omega, rfl, fun t ht => ?_⟩⟩
    rw [show upR A2 12 f 10 = hoQ q set (A 3 5).toNat from e10, show upR A2 12 f 6 = hoE (A 3) set from e6, e26, hoW_of hqq rfl (by omega)]
    unfold upI
    by_cases z : (t : Int) = j
    · rw [if_pos z, show t = j by omega]
    · rw [if_neg z]; exact hf t (by omega)
end EV
