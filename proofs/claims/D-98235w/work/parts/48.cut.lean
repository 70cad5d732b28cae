/-! LAYER 2: the twin's cut -/
def cutC (c : Int → Int) (k long : Int) : Int → Int := upI (upI (upI (upI c 2 0) 3 k) 8 (k + 1)) 9 (long - 1)
theorem cutC_ok {c : Int → Int} {k long : Int} (C : CrewOK c) (hk : 0 ≤ k ∧ k ≤ 18) (hl : 1 ≤ long ∧ long ≤ 20) : CrewOK (cutC c k long) := by
  have keep : ∀ j : Int, j ≠ 2 → j ≠ 3 → j ≠ 8 → j ≠ 9 → cutC c k long j = c j := fun j h2 h3 h8 h9 => by unfold cutC upI; rw [if_neg h9, if_neg h8, if_neg h3, if_neg h2]
  refine ⟨fun s h1 h2 => ?_, fun s h1 h2 => ?_, fun s h1 h2 => ?_, fun s h1 h2 => ?_, fun s h1 h2 => ?_, fun s h1 h2 => ?_⟩
  · rw [keep _ (by omega) (by omega) (by omega) (by omega)]; exact C.rule s h1 h2
  · rw [keep _ (by omega) (by omega) (by omega) (by omega)]; exact C.stands s h1 h2
  · have := C.frm s h1 h2
    unfold cutC upI
    rw [if_neg (by omega)]
    split
    · omega
    · rw [if_neg (by omega)]; split <;> omega
  · have := C.til s h1 h2
    unfold cutC upI
    split
    · omega
    · rw [if_neg (by omega)]
      split
      · omega
      · rw [if_neg (by omega)]; exact this
  · rw [keep _ (by omega) (by omega) (by omega) (by omega)]; exact C.step s h1 h2
  · rw [keep _ (by omega) (by omega) (by omega) (by omega)]; exact C.hands s h1 h2
theorem cutC_cg {c c' : Int → Int} {cm : Nat} {k long : Int} (h : eqC cm c c') : eqC cm (cutC c k long) (cutC c' k long) := by
  intro j h1 h2
  unfold cutC upI
  rw [h j h1 h2]
def cuE (r st : Int → Int) (k : Int) : Int → Int := evF r (cutC (crw r) k (r 1)) (ppl r) (r 4).toNat (r 2) st
def cuV (r st : Int → Int) (k : Nat) : Int := sumF r (ppl r) (cuE r st k) (r 2) 3
section EV
variable {h : Hp} {M : Int} {F : Nat → Int} {A : Int → Int → Int} {e : Int → Int} {Q : Int → Hp → Prop} {Qv : Hp → Prop} {B : Int}
/-- why nothing can be cut -/
theorem t_cutWhy (T : TT h M) (hB : 10000 ≤ B ∧ B ≤ 100000) (S : Scr F A) (hH : HR B F A)
    (no1 : F 14 = 0 → Q 1 (blk h M 15 (gF F) A))
    (no5 : F 14 ≠ 0 → (A 3 4 < 2 ∨ A 3 1 < 2) → Q 5 (blk h M 15 (gF F) A))
    (yes : F 14 ≠ 0 → 2 ≤ A 3 4 → 2 ≤ A 3 1 → ∀ F' A', Post F A 0 F' A' → F' 27 = (minN (cuV (A 3) (A 5)) (F 27) 1000000 (A 3 1 - 1).toNat).1 → F' 28 = (minN (cuV (A 3) (A 5)) (F 27) 1000000 (A 3 1 - 1).toNat).2 → Q 0 (blk h M 15 F' A')) : g_X4_cutWhy M Q (blk h M 15 (gF F) A) := by
  unfold g_X4_cutWhy g_X4_cutWhy_b29
  simp only [blk_F, tw_3]
  rw [gF_o (by decide) (by decide)]
  refine ⟨fun c0 => ⟨fun c1 => no5 c0 (Or.inl c1), fun c1 => ⟨fun c2 => ?_, fun c2 => no5 c0 (Or.inr c2)⟩⟩, fun c0 => no1 c0⟩
  obtain ⟨HO, R⟩ := hH c0
  have hn := HO.pm
  have hbl := HO.bell
  have hcm := HO.sm
  have hlg := HO.long
  rintro m35 rfl
  rw [blk_setF]
  refine Lp1_ind (k := (A 3 1 - 1).toNat) (fun m i h' => ∃ (j : Nat) (F' : Nat → Int) (A' : Int → Int → Int), j ≤ (A 3 1 - 1).toNat ∧ m = (A 3 1 - 1).toNat - j ∧ i = j ∧ h' = blk h M 15 F' A' ∧ Post F A 0 F' A' ∧ F' 27 = (minN (cuV (A 3) (A 5)) (F 27) 1000000 j).1 ∧ F' 28 = (minN (cuV (A 3) (A 5)) (F 27) 1000000 j).2) ?_
    ⟨0, upN (gF F) 28 1000000, A, by omega, by omega, rfl, rfl, ⟨⟨⟨rfl, rfl, rfl, rfl, rfl⟩, fun j h0 h1 _ _ _ h5 _ => by rw [upN_ne h5, gF_o h0 h1], S⟩, rfl, rfl⟩, rfl, rfl⟩
  rintro m i h' ⟨j, F', A', hj, rfl, rfl, rfl, P, e27, e28⟩ K hK
  obtain ⟨⟨⟨a1, a3, a5, a7, a8⟩, fs, S1⟩, f0, f11⟩ := id P
  unfold g_X4_cutWhy_L40
  simp only [tw_3, a3]
  refine ⟨(by first | omega | (unfold i32; omega)), fun c3 => ?_, fun c3 => ?_⟩
  · unfold g_X4_cutWhy_b142
    have ej : j = (A 3 1 - 1).toNat := by omega
    rw [ej] at e27 e28
    exact yes c0 c1 c2 F' A' P e27 e28
  · refine t_asTold T (by rw [a3]; exact HO) S1.1 (fun c q hc hqq _ => ?_)
    rw [a3] at hc hqq ⊢
    rintro m63 rfl
    rw [tw_3, blk_setF, show upR (upR A' 9 c) 10 q 3 = A 3 from a3]
    rintro m72 rfl
    rw [tws_9]
    rintro m79 rfl
    rw [tws_9, upR_up, upR_eq]
    refine ⟨(by first | omega | (unfold i32; omega)), ?_⟩
    rintro m89 rfl
    rw [tws_9, upR_up, upR_eq, tw_3, show ∀ f : Int → Int, upR (upR (upR A' 9 c) 10 q) 9 f 3 = A 3 from fun f => a3]
    refine ⟨(by first | omega | (unfold i32; omega)), ?_⟩
    rintro m104 rfl
    rw [tws_9, upR_up, upR_eq, show upR (upR A' 9 c) 10 q 9 = c from rfl, show upI (upI (upI (upI c 2 0) 3 (j : Int)) 8 ((j : Int) + 1)) 9 (A 3 1 - 1) = cutC c j (A 3 1) from rfl]
    have CR : CrewOK (cutC c j (A 3 1)) := cutC_ok hc.1 ⟨by omega, by omega⟩ hlg
    generalize hA9 : upR (upR (upR A' 9 c) 10 q) 9 (cutC c j (A 3 1)) = A9
    generalize hF9 : upN (upN F' 25 (A 3 4)) 26 (A 3 2) = F9
    have x3 : A9 3 = A 3 := by rw [← hA9]; exact a3
    have x5 : A9 5 = A 5 := by rw [← hA9]; exact a5
    have x9 : A9 9 = cutC c j (A 3 1) := by rw [← hA9]; rfl
    have x10 : A9 10 = q := by rw [← hA9]; rfl
    have x25 : F9 25 = A 3 4 := by rw [← hF9]; rfl
    have x26 : F9 26 = A 3 2 := by rw [← hF9]; rfl
    have x27 : F9 27 = F' 27 := by rw [← hF9]; rfl
    have x28 : F9 28 = F' 28 := by rw [← hF9]; rfl
    have x6 : ∀ j : Int, j < 0 ∨ 108 ≤ j → A9 6 j = 0 := by rw [← hA9]; exact S1.2.1
    have RE := (evF_ok (q := q) (cm := (A 3 4).toNat) (bell := A 3 2) hB.1 HO CR (by omega) ⟨by omega, by omega⟩ R).1
    have ev : evF (A 3) (cutC c j (A 3 1)) q (A 3 4).toNat (A 3 2) (A 5) = cuE (A 3) (A 5) j := evF_cg (by omega) (cutC_cg (eqC_as hc (by omega))) (eqQ_as hqq)
    refine t_evening T hB (by rw [x3]; exact HO) (by rw [x9]; exact CR) (by rw [x10]; exact hqq.1) (by rw [x25]; omega) (by rw [x26]; omega) (by rw [x5]; exact R) x6 (fun _ => ?_)
    rw [x3, x5, x9, x10, x25, x26]
    rw [ev] at RE ⊢
    refine t_sumOf hB (by rw [x3]; exact HO) (by rw [x10]; exact hqq.1) RE (by rw [x26]; omega) (fun _ => ?_)
    rw [x3, x10, x26, sumF_cg (by omega) (eqQ_as hqq) RE, show sumF (A 3) (ppl (A 3)) (cuE (A 3) (A 5) j) (A 3 2) 3 = cuV (A 3) (A 5) j from rfl]
    unfold RW
    have PP : Post F A 0 F9 (upR A9 6 (cuE (A 3) (A 5) j)) := by
      refine ⟨⟨⟨?_, x3, x5, ?_, ?_⟩, fun j h0 h1 h2 h3 h4 h5 h6 => ?_, ?_, ?_, ?_⟩, ?_, ?_⟩
      · rw [upR_ne (by omega), ← hA9]; exact a1
      · rw [upR_ne (by omega), ← hA9]; exact a7
      · rw [upR_ne (by omega), ← hA9]; exact a8
      · rw [← hF9, upN_ne h3, upN_ne h2]; exact fs j h0 h1 h2 h3 h4 h5 h6
      · rw [upR_ne (by omega), x9]; exact CR
      · intro j hj; rw [upR_eq]; exact RE.out j hj
      · rw [x25]; omega
      · rw [← hF9]; exact f0
      · rw [← hF9]; exact f11
    simp only [blk_F, x28]
    unfold g_X4_cutWhy_b136
    refine ⟨fun c4 => ?_, fun c4 => ⟨(by first | omega | (unfold i32; omega)), fun y ey => hK ((A 3 1 - 1).toNat - (j + 1)) _ _ (by omega) ⟨j + 1, F9, _, by omega, rfl, by omega, rfl, PP, ?_, ?_⟩⟩⟩
    · rintro m128 rfl m133 rfl
      rw [blk_setF, blk_setF]
      refine ⟨(by first | omega | (unfold i32; omega)), fun y ey => hK ((A 3 1 - 1).toNat - (j + 1)) _ _ (by omega) ⟨j + 1, _, _, by omega, rfl, by omega, rfl, ⟨⟨PP.1.1, fun j h0 h1 h2 h3 h4 h5 h6 => by rw [upN_ne h4, upN_ne h5]; exact PP.1.2.1 j h0 h1 h2 h3 h4 h5 h6, PP.1.2.2⟩, PP.2.1, PP.2.2⟩, ?_, ?_⟩⟩
      · rw [upN_eq]; simp only [minN]; rw [if_pos (by omega)]
      · rw [upN_ne (by decide), upN_eq]; simp only [minN]; rw [if_pos (by omega)]
    · rw [x27, e27]; simp only [minN]; rw [if_neg (by omega)]
    · rw [x28, e28]; simp only [minN]; rw [if_neg (by omega)]
theorem p_cut (T : TT h M) (hB : 10000 ≤ B ∧ B ≤ 100000) (S : Scr F A) (hH : HR B F A)
    (no : F 14 = 0 → ∀ F' A', Post F A 1 F' A' → Q (-1) (blk h M 15 F' A'))
    (no5 : F 14 ≠ 0 → (A 3 4 < 2 ∨ A 3 1 < 2) → ∀ F' A', Post F A 5 F' A' → Q (-1) (blk h M 15 F' A'))
    (yes : F 14 ≠ 0 → 2 ≤ A 3 4 → 2 ≤ A 3 1 → ∀ F' A', Post F A 0 F' A' → Q (minN (cuV (A 3) (A 5)) (F 27) 1000000 (A 3 1 - 1).toNat).1 (blk h M 15 F' A')) : g_X4_cut M Q (blk h M 15 F A) := by
  unfold g_X4_cut g_X4_cut_b25
  refine t_good (fun _ => t_cutWhy T hB S hH (fun c _ => ⟨fun z => absurd z (by decide), fun _ => t_no (fun _ => no c _ _ (post_no S))⟩) (fun c d _ => ⟨fun z => absurd z (by decide), fun _ => t_no (fun _ => no5 c d _ _ (post_no S))⟩) (fun c d e F' A' P e27 e28 _ => ⟨fun _ => ?_, fun z => absurd rfl z⟩))
  rw [blk_F, e27]
  exact yes c d e F' A' P
theorem p_cutWaits (T : TT h M) (hB : 10000 ≤ B ∧ B ≤ 100000) (S : Scr F A) (hH : HR B F A)
    (no : F 14 = 0 → ∀ F' A', Post F A 1 F' A' → Q (-1) (blk h M 15 F' A'))
    (no5 : F 14 ≠ 0 → (A 3 4 < 2 ∨ A 3 1 < 2) → ∀ F' A', Post F A 5 F' A' → Q (-1) (blk h M 15 F' A'))
    (yes : F 14 ≠ 0 → 2 ≤ A 3 4 → 2 ≤ A 3 1 → ∀ F' A', Post F A 0 F' A' → Q (minN (cuV (A 3) (A 5)) (F 27) 1000000 (A 3 1 - 1).toNat).2 (blk h M 15 F' A')) : g_X4_cutWaits M Q (blk h M 15 F A) := by
  unfold g_X4_cutWaits g_X4_cutWaits_b25
  refine t_good (fun _ => t_cutWhy T hB S hH (fun c _ => ⟨fun z => absurd z (by decide), fun _ => t_no (fun _ => no c _ _ (post_no S))⟩) (fun c d _ => ⟨fun z => absurd z (by decide), fun _ => t_no (fun _ => no5 c d _ _ (post_no S))⟩) (fun c d e F' A' P e27 e28 _ => ⟨fun _ => ?_, fun z => absurd rfl z⟩))
  rw [blk_F, e28]
  exact yes c d e F' A' P
end EV
