/-! LAYER 2: the twin's other evenings: by a rule -/
def ruleC (c : Int → Int) (cm rule rov long : Int) : Int → Int := fun j =>
  if 0 ≤ j ∧ j < 6 * cm ∧ j % 6 = 0 then rule else if rov ≠ 0 ∧ 0 ≤ j ∧ j < 6 * cm ∧ j % 6 = 2 then 0 else if rov ≠ 0 ∧ 0 ≤ j ∧ j < 6 * cm ∧ j % 6 = 3 then long - 1 else c j
theorem ruleC_ok {c : Int → Int} {cm rule rov long : Int} (C : CrewOK c) (hr : 0 ≤ rule ∧ rule ≤ 4) (hl : 1 ≤ long ∧ long ≤ 20) : CrewOK (ruleC c cm rule rov long) := by
  have key : ∀ (s i : Int), 0 ≤ i → i < 6 → ruleC c cm rule rov long (6 * s + i) = c (6 * s + i) ∨ (i = 0 ∧ ruleC c cm rule rov long (6 * s + i) = rule) ∨ (i = 2 ∧ ruleC c cm rule rov long (6 * s + i) = 0) ∨ (i = 3 ∧ ruleC c cm rule rov long (6 * s + i) = long - 1) := by
    intro s i h1 h2
    unfold ruleC
    split
    · exact Or.inr (Or.inl ⟨by omega, rfl⟩)
    split
    · exact Or.inr (Or.inr (Or.inl ⟨by omega, rfl⟩))
    split
    · exact Or.inr (Or.inr (Or.inr ⟨by omega, rfl⟩))
    · exact Or.inl rfl
  refine ⟨fun s h1 h2 => ?_, fun s h1 h2 => ?_, fun s h1 h2 => ?_, fun s h1 h2 => ?_, fun s h1 h2 => ?_, fun s h1 h2 => ?_⟩
  · have := C.rule s h1 h2; rcases key s 0 (by omega) (by omega) with z | ⟨w, z⟩ | ⟨w, z⟩ | ⟨w, z⟩ <;> omega
  · have := C.stands s h1 h2; rcases key s 1 (by omega) (by omega) with z | ⟨w, z⟩ | ⟨w, z⟩ | ⟨w, z⟩ <;> omega
  · have := C.frm s h1 h2; rcases key s 2 (by omega) (by omega) with z | ⟨w, z⟩ | ⟨w, z⟩ | ⟨w, z⟩ <;> omega
  · have := C.til s h1 h2; rcases key s 3 (by omega) (by omega) with z | ⟨w, z⟩ | ⟨w, z⟩ | ⟨w, z⟩ <;> omega
  · have := C.step s h1 h2; rcases key s 4 (by omega) (by omega) with z | ⟨w, z⟩ | ⟨w, z⟩ | ⟨w, z⟩ <;> omega
  · have := C.hands s h1 h2; rcases key s 5 (by omega) (by omega) with z | ⟨w, z⟩ | ⟨w, z⟩ | ⟨w, z⟩ <;> omega
theorem ruleC_0 (c : Int → Int) (rule rov long : Int) : ruleC c 0 rule rov long = c := by
  funext j; unfold ruleC; rw [if_neg (by omega), if_neg (by omega), if_neg (by omega)]
theorem ruleC_s (c : Int → Int) (s : Nat) (rule long : Int) : upI (ruleC c s rule 0 long) (6 * s + 0) rule = ruleC c (s + 1 : Nat) rule 0 long := by
  funext j; simp only [upI, ruleC]
  by_cases e : j = 6 * (s : Int) + 0
  · rw [if_pos e, if_pos (by omega)]
  · rw [if_neg e]
    by_cases e1 : 0 ≤ j ∧ j < 6 * (s : Int) ∧ j % 6 = 0
    · rw [if_pos e1, if_pos (by omega)]
    · rw [if_neg e1, if_neg (by omega), if_neg (by omega), if_neg (by omega), if_neg (by omega), if_neg (by omega)]
theorem ruleC_r (c : Int → Int) (s : Nat) (rule rov long : Int) (hr : rov ≠ 0) : upI (upI (upI (ruleC c s rule rov long) (6 * s + 0) rule) (6 * s + 2) 0) (6 * s + 3) (long - 1) = ruleC c (s + 1 : Nat) rule rov long := by
  funext j; simp only [upI, ruleC]
  by_cases e3 : j = 6 * (s : Int) + 3
  · rw [if_pos e3, if_neg (by omega), if_neg (by omega), if_pos ⟨hr, by omega⟩]
  rw [if_neg e3]
  by_cases e2 : j = 6 * (s : Int) + 2
  · rw [if_pos e2, if_neg (by omega), if_pos ⟨hr, by omega⟩]
  rw [if_neg e2]
  by_cases e0 : j = 6 * (s : Int) + 0
  · rw [if_pos e0, if_pos (by omega)]
  rw [if_neg e0]
  by_cases z0 : 0 ≤ j ∧ j < 6 * (s : Int) ∧ j % 6 = 0
  · rw [if_pos z0, if_pos (by omega)]
  rw [if_neg z0, if_neg (show ¬ (0 ≤ j ∧ j < 6 * ((s + 1 : Nat) : Int) ∧ j % 6 = 0) by omega)]
  by_cases z2 : rov ≠ 0 ∧ 0 ≤ j ∧ j < 6 * (s : Int) ∧ j % 6 = 2
  · rw [if_pos z2, if_pos (by omega)]
  rw [if_neg z2, if_neg (show ¬ (rov ≠ 0 ∧ 0 ≤ j ∧ j < 6 * ((s + 1 : Nat) : Int) ∧ j % 6 = 2) by omega)]
  by_cases z3 : rov ≠ 0 ∧ 0 ≤ j ∧ j < 6 * (s : Int) ∧ j % 6 = 3
  · rw [if_pos z3, if_pos (by omega)]
  rw [if_neg z3, if_neg (show ¬ (rov ≠ 0 ∧ 0 ≤ j ∧ j < 6 * ((s + 1 : Nat) : Int) ∧ j % 6 = 3) by omega)]
section EV
variable {h : Hp} {M : Int} {F : Nat → Int} {A : Int → Int → Int} {e : Int → Int} {Q : Int → Hp → Prop} {Qv : Hp → Prop} {B : Int}
theorem s_sumOf {what : Int} (hB : 10000 ≤ B ∧ B ≤ 100000) (HO : HouseOK (A 3)) (P : PplOK (A 10)) (R : RowOK B (A 6)) (hb : 0 ≤ F 26 ∧ F 26 ≤ 900) (hq : Q (sumF (A 3) (A 10) (A 6) (F 26) what) (blk h M 15 F A)) : g_X4_sumOf M what Q (blk h M 15 F A) := by
  rw [RW_self h M F A 6] at hq ⊢
  exact t_sumOf hB HO P R hb hq
theorem s_waitOf {p : Int} (hB : 10000 ≤ B ∧ B ≤ 100000) (P : PplOK (A 10)) (R : RowOK B (A 6)) (hb : 0 ≤ F 26 ∧ F 26 ≤ 900) (hp : 0 ≤ p ∧ p < 10) (hq : Q (waitF (A 10) (A 6) (F 26) p) (blk h M 15 F A)) : g_X4_waitOf M p Q (blk h M 15 F A) := by
  rw [RW_self h M F A 6] at hq ⊢
  exact t_waitOf hB P R hb hp hq
theorem s_fateOf {p : Int} (hp : 0 ≤ p ∧ p < 10) (hq : Q (fateF (A 6) p) (blk h M 15 F A)) : g_X4_fateOf M p Q (blk h M 15 F A) := by
  rw [RW_self h M F A 6] at hq ⊢
  exact t_fateOf hp hq
theorem t_layRule {rule rov : Int} {F1 : Nat → Int} {A1 : Int → Int → Int} (T : TT h M) (hB : 10000 ≤ B ∧ B ≤ 100000) (HO : HouseOK (A 3)) (R : RowOK B (A 5)) (hr : 0 ≤ rule ∧ rule ≤ 4) (P : Post F A 0 F1 A1)
    (hq : ∀ (c q : Int → Int) (F' : Nat → Int) (A' : Int → Int → Int), asC (A 3) c → asP (A 3) q → Post F A 0 F' A' → A' 10 = q → A' 6 = evF (A 3) (ruleC c (A 3 4) rule rov (A 3 1)) q (A 3 4).toNat (A 3 2) (A 5) → RowOK B (A' 6) → F' 26 = A 3 2 → Qv (blk h M 15 F' A')) : g_X4_layRule M rule rov Qv (blk h M 15 F1 A1) := by
  have b1 := HO.bell
  have b2 := HO.sm
  have b3 := HO.long
  obtain ⟨⟨⟨a1, a3, a5, a7, a8⟩, fs, S1⟩, f0, f11⟩ := P
  unfold g_X4_layRule
  refine t_asTold T (by rw [a3]; exact HO) S1.1 (fun c q hc hqq _ => ?_)
  rw [a3] at hc hqq ⊢
  rintro m11 rfl
  rw [tw_3, blk_setF, show upR (upR A1 9 c) 10 q 3 = A 3 from a3]
  have e0 : blk h M 15 (upN (upN F1 25 (A 3 4)) 26 (A 3 2)) (upR (upR A1 9 c) 10 q) = blk h M 15 (upN (upN F1 25 (A 3 4)) 26 (A 3 2)) (upR (upR (upR A1 9 c) 10 q) 9 (ruleC c ((0 : Nat) : Int) rule rov (A 3 1))) := by
    rw [show ((0 : Nat) : Int) = 0 from rfl, ruleC_0, show upR (upR (upR A1 9 c) 10 q) 9 c = upR (upR A1 9 c) 10 q from by
      funext j; unfold upR; by_cases e9 : j = 9
      · rw [if_pos e9, if_neg (by omega), if_pos e9]
      · rw [if_neg e9]]
  rw [e0]
  refine Lp1_for (A 3 4).toNat 0 (fun s => blk h M 15 (upN (upN F1 25 (A 3 4)) 26 (A 3 2)) (upR (upR (upR A1 9 c) 10 q) 9 (ruleC c s rule rov (A 3 1)))) (fun K s hs hK => ?_) (fun K => ?_)
  · rw [Int.zero_add]
    unfold g_X4_layRule_L16
    simp only [blk_F]
    rw [show upN (upN F1 25 (A 3 4)) 26 (A 3 2) 25 = A 3 4 from rfl]
    refine ⟨fun z => absurd z (by omega), fun _ => ⟨(by first | omega | (unfold i32; omega)), (by first | omega | (unfold i32; omega)), (by first | omega | (unfold i32; omega)), ?_⟩⟩
    rintro m35 rfl
    rw [tws_9, upR_up, upR_eq]
    refine ⟨fun z => ⟨(by first | omega | (unfold i32; omega)), (by first | omega | (unfold i32; omega)), (by first | omega | (unfold i32; omega)), ?_⟩, fun z => ?_⟩
    · rintro m54 rfl
      rw [tws_9, upR_up, upR_eq, tw_3, show ∀ f : Int → Int, upR (upR (upR A1 9 c) 10 q) 9 f 3 = A 3 from fun f => a3]
      refine ⟨(by first | omega | (unfold i32; omega)), (by first | omega | (unfold i32; omega)), (by first | omega | (unfold i32; omega)), (by first | omega | (unfold i32; omega)), ?_⟩
      rintro m73 rfl
      rw [tws_9, upR_up, upR_eq, ruleC_r c s rule rov (A 3 1) z]
      unfold g_X4_layRule_b74
      exact ⟨(by first | omega | (unfold i32; omega)), fun y ey => hK _ _ (by omega) rfl⟩
    · subst z
      rw [ruleC_s]
      unfold g_X4_layRule_b74
      exact ⟨(by first | omega | (unfold i32; omega)), fun y ey => hK _ _ (by omega) rfl⟩
  · unfold g_X4_layRule_L16 g_X4_layRule_b80
    simp only [blk_F]
    rw [show upN (upN F1 25 (A 3 4)) 26 (A 3 2) 25 = A 3 4 from rfl, show ((A 3 4).toNat : Int) = A 3 4 by omega]
    refine ⟨fun _ => ?_, fun z => absurd z (by omega)⟩
    have CR : CrewOK (ruleC c (A 3 4) rule rov (A 3 1)) := ruleC_ok hc.1 hr b3
    generalize hA9 : upR (upR (upR A1 9 c) 10 q) 9 (ruleC c (A 3 4) rule rov (A 3 1)) = A9
    generalize hF9 : upN (upN F1 25 (A 3 4)) 26 (A 3 2) = F9
    have x3 : A9 3 = A 3 := by rw [← hA9]; exact a3
    have x5 : A9 5 = A 5 := by rw [← hA9]; exact a5
    have x9 : A9 9 = ruleC c (A 3 4) rule rov (A 3 1) := by rw [← hA9]; rfl
    have x10 : A9 10 = q := by rw [← hA9]; rfl
    have x25 : F9 25 = A 3 4 := by rw [← hF9]; rfl
    have x26 : F9 26 = A 3 2 := by rw [← hF9]; rfl
    have x6 : ∀ j : Int, j < 0 ∨ 108 ≤ j → A9 6 j = 0 := by rw [← hA9]; exact S1.2.1
    have RE := (evF_ok (q := q) (cm := (A 3 4).toNat) (bell := A 3 2) hB.1 HO CR (by omega) ⟨by omega, by omega⟩ R).1
    refine t_evening T hB (by rw [x3]; exact HO) (by rw [x9]; exact CR) (by rw [x10]; exact hqq.1) (by rw [x25]; omega) (by rw [x26]; omega) (by rw [x5]; exact R) x6 (fun _ => ?_)
    rw [x3, x5, x9, x10, x25, x26]
    refine hq c q F9 _ hc hqq ⟨⟨⟨?_, x3, x5, ?_, ?_⟩, fun j h0 h1 h2 h3 h4 h5 h6 => ?_, ?_, ?_, ?_⟩, ?_, ?_⟩ x10 upR_eq (by rw [upR_eq]; exact RE) x26
    · rw [upR_ne (by omega), ← hA9]; exact a1
    · rw [upR_ne (by omega), ← hA9]; exact a7
    · rw [upR_ne (by omega), ← hA9]; exact a8
    · rw [← hF9, upN_ne h3, upN_ne h2]; exact fs j h0 h1 h2 h3 h4 h5 h6
    · rw [upR_ne (by omega), x9]; exact CR
    · intro j hj; rw [upR_eq]; exact RE.out j hj
    · rw [x25]; omega
    · rw [← hF9]; exact f0
    · rw [← hF9]; exact f11
theorem p_by {rule rov what : Int} (T : TT h M) (hB : 10000 ≤ B ∧ B ≤ 100000) (S : Scr F A) (hH : HR B F A)
    (no : ¬ (F 14 ≠ 0 ∧ (0 ≤ rule ∧ rule ≤ 4) ∧ 0 ≤ what ∧ what ≤ 5) → ∀ F' A', Post F A 1 F' A' → Q (-1) (blk h M 15 F' A'))
    (yes : (F 14 ≠ 0 ∧ (0 ≤ rule ∧ rule ≤ 4) ∧ 0 ≤ what ∧ what ≤ 5) → ∀ c q, asC (A 3) c → asP (A 3) q → ∀ F' A', Post F A 0 F' A' → Q (sumF (A 3) q (evF (A 3) (ruleC c (A 3 4) rule rov (A 3 1)) q (A 3 4).toNat (A 3 2) (A 5)) (A 3 2) what) (blk h M 15 F' A')) : g_X4_by M rule rov what Q (blk h M 15 F A) := by
  unfold g_X4_by g_X4_by_b29
  refine t_good (fun _ => ?_)
  rw [blk_F, gF_o (by decide) (by decide)]
  refine ⟨fun c0 => t_no (fun _ => no (fun z => z.1 c0) _ _ (post_no S)), fun c0 => t_within (fun _ => ⟨fun c1 => t_no (fun _ => no (fun z => zero_of c1 z.2.1) _ _ (post_no S)), fun c1 => t_within (fun _ => ⟨fun c2 => ?_, fun c2 => t_no (fun _ => no (fun z => zero_of c2 z.2.2) _ _ (post_no S))⟩)⟩)⟩
  have c1 := one_of c1
  have c2 := one_of c2
  obtain ⟨HO, R⟩ := hH c0
  have hbl := HO.bell
  refine t_layRule T hB HO R c1 (post_g S) (fun c q F' A' hc hqq P e10 e6 R6 e26 _ => ?_)
  refine s_sumOf hB (by rw [P.1.1.2.1]; exact HO) (by rw [e10]; exact hqq.1) R6 (by rw [e26]; omega) (fun _ => ?_)
  rw [P.1.1.2.1, e10, e6, e26]
  exact yes ⟨c0, c1, c2⟩ c q hc hqq F' A' P
def minN (v : Nat → Int) (b0 l0 : Int) : Nat → Int × Int
  | 0 => (b0, l0)
  | k + 1 => if v k < (minN v b0 l0 k).2 then ((k : Int), v k) else minN v b0 l0 k
theorem ruleC_cg {c c' : Int → Int} {cm : Nat} {rule rov long : Int} (h : eqC cm c c') : eqC cm (ruleC c cm rule rov long) (ruleC c' cm rule rov long) := by
  intro j h1 h2
  unfold ruleC
  rw [h j h1 h2]
/-- the told evening, but by one rule -/
def evR (r st : Int → Int) (rule rov : Int) : Int → Int := evF r (ruleC (crw r) (r 4) rule rov (r 1)) (ppl r) (r 4).toNat (r 2) st
def evT (r st : Int → Int) : Int → Int := evF r (crw r) (ppl r) (r 4).toNat (r 2) st
theorem evR_of {r c q st : Int → Int} {rule rov : Int} (HO : HouseOK r) (hc : asC r c) (hq : asP r q) : evF r (ruleC c (r 4) rule rov (r 1)) q (r 4).toNat (r 2) st = evR r st rule rov := by
  have h1 := HO.pm
  have h2 := HO.sm
  unfold evR
  refine evF_cg (by omega) ?_ (eqQ_as hq)
  have := ruleC_cg (rule := rule) (rov := rov) (long := r 1) (eqC_as hc (cm := (r 4).toNat) (by omega))
  rw [show (((r 4).toNat : Nat) : Int) = r 4 by omega] at this
  exact this
theorem evT_of {r c q st : Int → Int} (HO : HouseOK r) (hc : asC r c) (hq : asP r q) : evF r c q (r 4).toNat (r 2) st = evT r st := by
  have h1 := HO.pm
  have h2 := HO.sm
  exact evF_cg (by omega) (eqC_as hc (by omega)) (eqQ_as hq)
def brV (r st : Int → Int) (turn : Int) (k : Nat) : Int := if turn ≠ 0 then sumF r (ppl r) (evR r st k 0) (r 2) 4 else - sumF r (ppl r) (evR r st k 0) (r 2) 0
theorem p_bestRule {turn : Int} (T : TT h M) (hB : 10000 ≤ B ∧ B ≤ 100000) (S : Scr F A) (hH : HR B F A)
    (no : F 14 = 0 → ∀ F' A', Post F A 1 F' A' → Q (-1) (blk h M 15 F' A'))
    (yes : F 14 ≠ 0 → ∀ F' A', Post F A 0 F' A' → Q (minN (brV (A 3) (A 5) turn) 0 1000000 5).1 (blk h M 15 F' A')) : g_X4_bestRule M turn Q (blk h M 15 F A) := by
  unfold g_X4_bestRule
  refine t_good (fun _ => ?_)
  rw [blk_F, gF_o (by decide) (by decide)]
  refine ⟨fun c0 => ?_, fun c0 => t_no (fun _ => no c0 _ _ (post_no S))⟩
  obtain ⟨HO, R⟩ := hH c0
  have hbl := HO.bell
  have hpm := HO.pm
  refine Lp3_ind (k := 5) (fun m a b i h' => ∃ (j : Nat) (F' : Nat → Int) (A' : Int → Int → Int), j ≤ 5 ∧ m = 5 - j ∧ i = j ∧ a = (minN (brV (A 3) (A 5) turn) 0 1000000 j).1 ∧ b = (minN (brV (A 3) (A 5) turn) 0 1000000 j).2 ∧ h' = blk h M 15 F' A' ∧ Post F A 0 F' A') ?_ ⟨0, gF F, A, by omega, by omega, rfl, rfl, rfl, rfl, post_g S⟩
  rintro m a b i h' ⟨j, F', A', hj, rfl, rfl, rfl, rfl, rfl, P⟩ K hK
  unfold g_X4_bestRule_L26
  refine ⟨fun c1 => ?_, fun c1 => ?_⟩
  · have e5 : j = 5 := by omega
    subst e5
    unfold g_X4_bestRule_b80
    exact yes c0 _ _ P
  · refine t_layRule T hB HO R ⟨by omega, by omega⟩ P (fun c q F2 A2 hc hqq P2 e10 e6 R6 e26 _ => ?_)
    rw [evR_of HO hc hqq] at e6
    have b57 : ∀ v : Int, v = brV (A 3) (A 5) turn j → g_X4_bestRule_b57 M turn Q K (minN (brV (A 3) (A 5) turn) 0 1000000 j).1 (minN (brV (A 3) (A 5) turn) 0 1000000 j).2 j v (blk h M 15 F2 A2) := by
      intro v hv
      unfold g_X4_bestRule_b57 g_X4_bestRule_b74
      refine ⟨fun c2 => ⟨(by first | omega | (unfold i32; omega)), fun y ey => hK (5 - (j + 1)) _ _ _ _ (by omega) ⟨j + 1, F2, A2, by omega, rfl, by omega, ?_, ?_, rfl, P2⟩⟩, fun c2 => ⟨(by first | omega | (unfold i32; omega)), fun y ey => hK (5 - (j + 1)) _ _ _ _ (by omega) ⟨j + 1, F2, A2, by omega, rfl, by omega, ?_, ?_, rfl, P2⟩⟩⟩
      · simp only [minN]; rw [if_pos (by omega)]
      · simp only [minN]; rw [if_pos (by omega)]; exact hv
      · simp only [minN]; rw [if_neg (by omega)]
      · simp only [minN]; rw [if_neg (by omega)]
    have sc : ∀ what : Int, sumF (A2 3) (A2 10) (A2 6) (F2 26) what = sumF (A 3) (ppl (A 3)) (evR (A 3) (A 5) j 0) (A 3 2) what := by
      intro what
      rw [P2.1.1.2.1, e10, e26, e6]
      exact sumF_cg (by omega) (eqQ_as hqq) (by rw [← e6]; exact R6)
    refine ⟨fun c2 => s_sumOf hB (by rw [P2.1.1.2.1]; exact HO) (by rw [e10]; exact hqq.1) R6 (by rw [e26]; omega) (fun _ => ⟨?_, b57 _ ?_⟩), fun c2 => s_sumOf hB (by rw [P2.1.1.2.1]; exact HO) (by rw [e10]; exact hqq.1) R6 (by rw [e26]; omega) (fun _ => b57 _ ?_)⟩
    · have hT := sumN_ab (f := fun p => sumT (A2 3) (A2 10) (A2 6) (F2 26) 0 p) (B := 1) (A2 3 5).toNat (fun i hi => by
        unfold sumT
        rw [if_pos (rfl : (0 : Int) = 0)]
        split
        · omega
        · split <;> omega)
      have e3 : A2 3 = A 3 := P2.1.1.2.1
      rw [e3] at hT ⊢
      unfold sumF i32; omega
    · rw [sc]; unfold brV; rw [if_neg (by omega)]
    · rw [sc]; unfold brV; rw [if_pos c2]
end EV
