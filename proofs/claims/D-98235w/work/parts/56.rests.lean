/-! LAYER 2: the twin's rest -/
section EV
variable {h : Hp} {M : Int} {F : Nat → Int} {A : Int → Int → Int} {e : Int → Int} {Q : Int → Hp → Prop} {Qv : Hp → Prop} {B : Int}
theorem p_rest {set : Int} (LY : Lay_X4 (blk h M 15 F A) M) (hB : 10000 ≤ B ∧ B ≤ 100000) (S : Scr F A) (hH : HR B F A)
    (no : F 14 = 0 → ∀ F' A', Post F A 1 F' A' → Q (-1) (blk h M 15 F' A'))
    (no2 : F 14 ≠ 0 → ¬ (0 ≤ set ∧ set ≤ bShl 1 (A 3 5) - 1) → ∀ F' A', Post F A 2 F' A' → Q (-1) (blk h M 15 F' A'))
    (yes : F 14 ≠ 0 → (0 ≤ set ∧ set ≤ bShl 1 (A 3 5) - 1) → ∀ F' A', Post F A 0 F' A' → Q (arV (A 3) set) (blk h M 15 F' A')) : g_X4_rest M set Q (blk h M 15 F A) := by
  unfold g_X4_rest g_X4_rest_b35
  refine t_good (fun _ => s_setWhy (fun z => (hH z).1) (fun _ => ?_))
  rw [gF_o (by decide) (by decide)]
  by_cases c0 : F 14 = 0
  · rw [if_pos c0]
    exact ⟨fun z => absurd z (by decide), fun _ => t_no (fun _ => no c0 _ _ (post_no S))⟩
  rw [if_neg c0]
  by_cases c1 : 0 ≤ set ∧ set ≤ bShl 1 (A 3 5) - 1
  · rw [if_pos c1]
    obtain ⟨HO, R⟩ := hH c0
    refine ⟨fun _ => ?_, fun z => absurd rfl z⟩
    refine t_isAtRest (lay_of LY ⟨rfl, rfl, rfl, rfl, rfl, rfl, rfl, rfl, rfl, rfl, rfl, rfl, rfl, rfl, rfl⟩) hB HO R (post_g S) (fun F' A' P _ _ => ?_)
    have fin := yes c0 c1 F' A' P
    unfold arV at fin ⊢
    refine ⟨fun z => ?_, fun z => ?_⟩
    · rw [if_neg (zero_of z)] at fin; exact fin
    · rw [if_pos (one_of z)] at fin; exact fin
  · rw [if_neg c1]
    exact ⟨fun z => absurd z (by decide), fun _ => t_no (fun _ => no2 c0 c1 _ _ (post_no S))⟩
theorem p_rests (LY : Lay_X4 (blk h M 15 F A) M) (hB : 10000 ≤ B ∧ B ≤ 100000) (S : Scr F A) (hH : HR B F A)
    (no : F 14 = 0 → ∀ F' A', Post F A 1 F' A' → Q (-1) (blk h M 15 F' A'))
    (no3 : F 14 ≠ 0 → 7 < A 3 5 → ∀ F' A', Post F A 3 F' A' → Q (-1) (blk h M 15 F' A'))
    (yes : F 14 ≠ 0 → A 3 5 ≤ 7 → ∀ F' A', Post F A 0 F' A' → Q (sumN (fun k => arV (A 3) k) (bShl 1 (A 3 5)).toNat) (blk h M 15 F' A')) : g_X4_rests M Q (blk h M 15 F A) := by
  unfold g_X4_rests
  refine t_good (fun _ => ?_)
  rw [blk_F, gF_o (by decide) (by decide), tw_3]
  refine ⟨fun c0 => ⟨fun c1 => ?_, fun c1 => t_no (fun _ => no3 c0 c1 _ _ (post_no S))⟩, fun c0 => t_no (fun _ => no c0 _ _ (post_no S))⟩
  obtain ⟨HO, R⟩ := hH c0
  have hn := HO.pm
  have e := shl_b (A 3 5).toNat (by omega)
  rw [show (((A 3 5).toNat : Nat) : Int) = A 3 5 by omega] at e
  have l1 : (2 ^ (A 3 5).toNat : Nat) ≤ 2 ^ 10 := Nat.pow_le_pow_right (by omega) (by omega)
  have bb : 0 ≤ bShl 1 (A 3 5) ∧ bShl 1 (A 3 5) ≤ 1024 := by rw [e]; generalize (2 ^ (A 3 5).toNat : Nat) = z at l1 ⊢; omega
  have ly0 : Lof F (gF F) := ⟨rfl, rfl, rfl, rfl, rfl, rfl, rfl, rfl, rfl, rfl, rfl, rfl, rfl, rfl, rfl⟩
  have a01 : ∀ k : Nat, 0 ≤ arV (A 3) k ∧ arV (A 3) k ≤ 1 := fun k => by unfold arV; split <;> omega
  refine Lp2_ind (k := (bShl 1 (A 3 5)).toNat) (fun m a i h' => ∃ (j : Nat) (F' : Nat → Int) (A' : Int → Int → Int), j ≤ (bShl 1 (A 3 5)).toNat ∧ m = (bShl 1 (A 3 5)).toNat - j ∧ i = j ∧ a = sumN (fun k => arV (A 3) k) j ∧ h' = blk h M 15 F' A' ∧ Post F A 0 F' A' ∧ Lay_X4 (blk h M 15 F' A') M) ?_ ⟨0, gF F, A, by omega, by omega, rfl, rfl, rfl, post_g S, lay_of LY ly0⟩
  rintro m a i h' ⟨j, F', A', hj, rfl, rfl, rfl, rfl, P, L2⟩ K hK
  have a3 : A' 3 = A 3 := P.1.1.2.1
  have sb := sumN_01 (f := fun k => arV (A 3) k) j (fun i _ => a01 i)
  unfold g_X4_rests_L38 g_X4_rests_b60 g_X4_rests_b68
  refine s_allPeople (by rw [a3]; exact HO) (fun _ => ?_)
  rw [a3]
  refine ⟨fun c2 => ?_, fun c2 => t_isAtRest L2 hB HO R P (fun F2 A2 P2 lo2 _ => ?_)⟩
  · have fin := yes c0 c1 F' A' P
    rw [show (bShl 1 (A 3 5)).toNat = j by omega] at fin
    exact fin
  · have nx : ∀ v : Int, v = arV (A 3) j → (i32 (sumN (fun k => arV (A 3) k) j + v)) ∧ (∀ y61 : Int, y61 = (sumN (fun k => arV (A 3) k) j + v) → ((i32 ((j : Int) + 1)) ∧ (∀ y62 : Int, y62 = (j : Int) + 1 → (K y61 y62 (blk h M 15 F2 A2))))) := by
      intro v hv
      have := a01 j
      refine ⟨(by first | omega | (unfold i32; omega)), ?_⟩
      rintro y rfl
      exact ⟨(by first | omega | (unfold i32; omega)), fun y ey => hK ((bShl 1 (A 3 5)).toNat - (j + 1)) _ _ _ (by omega) ⟨j + 1, F2, A2, by omega, rfl, by omega, by rw [hv]; rfl, rfl, P2, lay_of L2 lo2⟩⟩
    refine ⟨fun z => nx 0 z.symm, fun z => nx 1 ?_⟩
    have := a01 j
    omega
end EV
