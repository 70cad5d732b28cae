/-! LAYER 2: the twin's acts: pass, undo, image, back -/
def putR (k n : Int) (st un : Int → Int) : Int → Int := fun j => if 108 * n ≤ j ∧ j < 108 * n + 108 then st (j - 108 * n) else un j
def getR (n : Int) (st un : Int → Int) : Int → Int := fun j => if 0 ≤ j ∧ j < 108 then un (108 * n + j) else st j
section EV
variable {h : Hp} {M : Int} {F : Nat → Int} {A : Int → Int → Int} {e : Int → Int} {Q : Int → Hp → Prop} {Qv : Hp → Prop} {B : Int}
theorem p_pass {n : Int} (T : TT h M) (hB : 10000 ≤ B ∧ B ≤ 100000) (S : Scr F A) (hH : HR B F A) (hu : 0 ≤ F 21 ∧ F 21 ≤ 12)
    (no : F 14 = 0 → ∀ F' A', Post F A 1 F' A' → Q (-1) (blk h M 15 F' A'))
    (no2 : F 14 ≠ 0 → ¬ (1 ≤ n ∧ n ≤ 200) → ∀ F' A', Post F A 2 F' A' → Q (-1) (blk h M 15 F' A'))
    (no3 : F 14 ≠ 0 → (1 ≤ n ∧ n ≤ 200) → A 3 2 + 1 < A 5 0 + n → ∀ F' A', Post F A 3 F' A' → Q (-1) (blk h M 15 F' A'))
    (yes : F 14 ≠ 0 → (1 ≤ n ∧ n ≤ 200) → A 5 0 + n ≤ A 3 2 + 1 → ∀ c q, asC (A 3) c → asP (A 3) q → ∀ F' A', PostA F A (secN (A 3) c q (A 3 4).toNat n.toNat (A 5)) F' A' → Q (secN (A 3) c q (A 3 4).toNat n.toNat (A 5) 0) (blk h M 15 F' A')) : g_X4_pass M n Q (blk h M 15 F A) := by
  have hk : (5 : Int) = 5 ∨ (5 : Int) = 6 := Or.inl rfl
  unfold g_X4_pass
  refine t_good (fun _ => ?_)
  rw [blk_F, gF_o (by decide) (by decide)]
  refine ⟨fun c0 => t_within (fun _ => ⟨fun c1 => ?_, fun c1 => t_no (fun _ => no2 c0 (zero_of c1) _ _ (post_no S))⟩), fun c0 => t_no (fun _ => no c0 _ _ (post_no S))⟩
  have c1 := one_of c1
  obtain ⟨HO, R⟩ := hH c0
  have hbl := HO.bell
  have hcm := HO.sm
  have h0 := R.now
  simp only [tw_5, tw_3]
  refine ⟨(by first | omega | (unfold i32; omega)), (by first | omega | (unfold i32; omega)), fun c2 => ?_, fun c2 => t_no (fun _ => no3 c0 c1 c2 _ _ (post_no S))⟩
  refine t_note T (show 0 ≤ gF F 21 ∧ gF F 21 ≤ 12 from hu) (fun _ => ?_)
  refine t_asTold T (show HouseOK (upR A 7 (noteU (A 7) (A 5) (gF F 21)) 3) from HO) (show CrewOK (upR A 7 (noteU (A 7) (A 5) (gF F 21)) 9) from S.1) (fun c q hc hqq _ => ?_)
  have hc : asC (A 3) c := hc
  have hqq : asP (A 3) q := hqq
  have yes := yes c0 c1 c2 c q hc hqq
  rw [RW_self h M _ _ 5]
  generalize hF9 : upN (upN (gF F) 21 (noteN (gF F 21))) 25 (upR A 7 (noteU (A 7) (A 5) (gF F 21)) 3 4) = F9
  generalize hA9 : upR (upR (upR A 7 (noteU (A 7) (A 5) (gF F 21))) 9 c) 10 q = A9
  have a3 : A9 3 = A 3 := by rw [← hA9]; rfl
  have a5 : A9 5 = A 5 := by rw [← hA9]; rfl
  have a9 : A9 9 = c := by rw [← hA9]; rfl
  have a10 : A9 10 = q := by rw [← hA9]; rfl
  have f25 : F9 25 = A 3 4 := by rw [← hF9]; rfl
  rw [a5]
  refine Lp1_for n.toNat 0 (fun j => RW h M F9 A9 5 (secN (A 3) c q (A 3 4).toNat j (A 5))) (fun K j hj hK => ?_) (fun K => ?_)
  · obtain ⟨R1, e2⟩ := secN_ok (q := q) (cm := (A 3 4).toNat) hB.1 HO hc.1 (by omega) R j (by omega)
    rw [Int.zero_add]
    unfold g_X4_pass_L69
    refine ⟨fun c => absurd c (by omega), fun _ => t_second hk hB (by rw [a3]; exact HO) (by rw [a9]; exact hc.1) (by rw [a10]; exact hqq.1) (by rw [f25]; omega) R1 (fun _ => ⟨(by first | omega | (unfold i32; omega)), fun y ey => hK _ _ (by omega) ?_⟩)⟩
    rw [a3, a9, a10, f25]; rfl
  · unfold g_X4_pass_L69 g_X4_pass_b88
    simp only [RW_k hk]
    refine ⟨fun _ => yes F9 _ ⟨⟨?_, ?_, upR_eq, ?_, ?_⟩, ?_, ?_, ?_, fun j h0 h1 h2 h3 _ _ _ _ => ?_, ?_, ?_, ?_⟩, fun c => absurd c (by omega)⟩
    · rw [← hA9]; rfl
    · rw [← hA9]; rfl
    · rw [← hA9]; rfl
    · rw [← hA9]; rfl
    · rw [← hF9]; rfl
    · rw [← hF9]; rfl
    · rw [← hF9]; rfl
    · rw [← hF9, upN_ne h3, upN_ne h2, gF_o h0 h1]
    · rw [upR_ne (by omega), a9]; exact hc.1
    · rw [upR_ne (by omega), ← hA9]; exact S.2.1
    · rw [f25]; omega
theorem p_undo (T : TT h M) (S : Scr F A) (hu : 0 ≤ F 21 ∧ F 21 ≤ 12)
    (no : F 21 = 0 → ∀ F' A', Post F A 6 F' A' → Q 0 (blk h M 15 F' A'))
    (yes : F 21 ≠ 0 → Q 1 (blk h M 15 (upN (gF F) 21 (F 21 - 1)) (upR A 5 (getR (F 21 - 1) (A 5) (A 7))))) : g_X4_undo M Q (blk h M 15 F A) := by
  unfold g_X4_undo
  refine t_good (fun _ => ?_)
  simp only [blk_F]
  rw [gF_o (by decide) (by decide)]
  refine ⟨fun c => ⟨(by first | omega | (unfold i32; omega)), ?_⟩, fun c => t_isNot (fun _ => ⟨Or.inl rfl, no c _ _ (post_no S)⟩)⟩
  rintro m25 rfl
  rw [blk_setF]
  simp only [blk_F]
  rw [upN_eq]
  refine ⟨(by first | omega | (unfold i32; omega)), s_copy (i := 7) (j := 5) (by omega) (by omega) (by omega) (by omega) T.t7.1 T.t5.1 (by rw [T.t7.2]; omega) (by rw [T.t5.2]; omega) (fun _ => ?_)⟩
  have e1 : (fun t => if 0 ≤ t ∧ t < 0 + 108 then A 7 (108 * (F 21 - 1) + (t - 0)) else A 5 t) = getR (F 21 - 1) (A 5) (A 7) := by
    funext t; unfold getR; rw [show t - 0 = t by omega, show (0 : Int) + 108 = 108 by omega]
  rw [e1]; exact yes c
theorem p_image (T : TT h M) (S : Scr F A) (hi : 0 ≤ F 22 ∧ F 22 ≤ 3)
    (no : F 14 = 0 → ∀ F' A', Post F A 1 F' A' → Q (-1) (blk h M 15 F' A'))
    (no3 : F 14 ≠ 0 → F 22 = 3 → ∀ F' A', Post F A 3 F' A' → Q (-1) (blk h M 15 F' A'))
    (yes : F 14 ≠ 0 → F 22 ≠ 3 → Q (F 22) (blk h M 15 (upN (gF F) 22 (F 22 + 1)) (upR A 8 (putR 8 (F 22) (A 5) (A 8))))) : g_X4_image M Q (blk h M 15 F A) := by
  unfold g_X4_image
  refine t_good (fun _ => ?_)
  simp only [blk_F]
  rw [gF_o (by decide) (by decide), gF_o (by decide) (by decide)]
  refine ⟨fun c0 => ⟨fun c1 => ⟨(by first | omega | (unfold i32; omega)), s_copy (i := 5) (j := 8) (by omega) (by omega) (by omega) (by omega) T.t5.1 T.t8.1 (by rw [T.t5.2]; omega) (by rw [T.t8.2]; omega) (fun _ => ?_)⟩, fun c1 => t_no (fun _ => no3 c0 c1 _ _ (post_no S))⟩, fun c0 => t_no (fun _ => no c0 _ _ (post_no S))⟩
  simp only [blk_F]
  rw [gF_o (by decide) (by decide)]
  refine ⟨(by first | omega | (unfold i32; omega)), ?_⟩
  rintro m59 rfl
  rw [blk_setF, blk_F, upN_eq]
  have e1 : (fun t => if 108 * F 22 ≤ t ∧ t < 108 * F 22 + 108 then A 5 (0 + (t - 108 * F 22)) else A 8 t) = putR 8 (F 22) (A 5) (A 8) := by
    funext t; unfold putR; rw [show 0 + (t - 108 * F 22) = t - 108 * F 22 by omega]
  rw [e1, show F 22 + 1 - 1 = F 22 by omega]
  exact ⟨(by first | omega | (unfold i32; omega)), yes c0 c1⟩
theorem p_back {i : Int} (T : TT h M) (S : Scr F A) (hi : 0 ≤ F 22 ∧ F 22 ≤ 3)
    (no : ¬ (0 ≤ i ∧ i ≤ F 22 - 1) → ∀ F' A', Post F A 1 F' A' → Q 0 (blk h M 15 F' A'))
    (yes : (0 ≤ i ∧ i ≤ F 22 - 1) → Q 1 (blk h M 15 (upN (gF F) 21 0) (upR A 5 (getR i (A 5) (A 8))))) : g_X4_back M i Q (blk h M 15 F A) := by
  unfold g_X4_back
  refine t_good (fun _ => ?_)
  simp only [blk_F]
  rw [gF_o (by decide) (by decide)]
  refine ⟨(by first | omega | (unfold i32; omega)), t_within (fun _ => ⟨fun c => ?_, fun c => t_isNot (fun _ => ⟨Or.inl rfl, no (zero_of c) _ _ (post_no S)⟩)⟩)⟩
  have c := one_of c
  refine ⟨(by first | omega | (unfold i32; omega)), s_copy (i := 8) (j := 5) (by omega) (by omega) (by omega) (by omega) T.t8.1 T.t5.1 (by rw [T.t8.2]; omega) (by rw [T.t5.2]; omega) (fun _ => ?_)⟩
  rintro m44 rfl
  rw [blk_setF]
  have e1 : (fun t => if 0 ≤ t ∧ t < 0 + 108 then A 8 (108 * i + (t - 0)) else A 5 t) = getR i (A 5) (A 8) := by
    funext t; unfold getR; rw [show t - 0 = t by omega, show (0 : Int) + 108 = 108 by omega]
  rw [e1]; exact yes c
end EV
