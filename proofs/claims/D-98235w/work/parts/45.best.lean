/-! LAYER 2: the best place, the least look (printed by tools/mk45.py) -/
def wihF (q e : Int → Int) (bell p : Int) : Int := if fateF e p < 2 then waitF q e bell p else 1000000
def plV (r st : Int → Int) (p off : Int) (k : Nat) : Int := wihF (ppl r) (evT r (upI st (12 + 8 * p + off) k)) (r 2) p
theorem RowOK.up {B : Int} {row : Int → Int} {i v p : Int} (R : RowOK B row) (hp : 0 ≤ p ∧ p < 10) (hv : -B ≤ v ∧ v ≤ B) (hi : (i = 12 + 8 * p + 1 ∧ 0 ≤ v ∧ v ≤ 19) ∨ i = 12 + 8 * p + 2 ∨ i = 12 + 8 * p + 3) : RowOK B (upI row i v) := by
  have keep : ∀ j : Int, j ≠ i → upI row i v j = row j := fun j hj => if_neg hj
  refine ⟨by rw [keep 0 (by omega)]; exact R.now, fun j => ?_, fun q q1 q2 => ?_, fun s s1 s2 => ?_, fun s s1 s2 => ?_, by rw [keep 1 (by omega)]; exact R.served, ?_, fun q q1 q2 => ?_, fun q q1 q2 => ?_, fun j hj => by rw [keep j (by omega)]; exact R.out j hj⟩
  · have := R.cells j
    unfold upI; split <;> omega
  · have := R.place q q1 q2
    by_cases e : 12 + 8 * q + 1 = i
    · rw [e, show upI row i v i = v from if_pos rfl]; omega
    · rw [keep _ e]; exact this
  · rw [keep _ (by omega)]; exact R.stands s s1 s2
  · rw [keep _ (by omega)]; exact R.last s s1 s2
  · rw [keep 1 (by omega)]
    have := cw_le (a := upI row i v) (b := row) (fun q q1 q2 z => by rw [keep _ (by omega)] at z; exact z)
    have := R.room
    omega
  · rw [keep _ (by omega)]; exact R.who q q1 q2
  · rw [keep _ (by omega)]; exact R.does q q1 q2
theorem upI_up (f : Int → Int) (i v w : Int) : upI (upI f i v) i w = upI f i w := by
  funext j; unfold upI; by_cases e : j = i <;> simp [e]
theorem upI_id (f : Int → Int) (i : Int) : upI f i (f i) = f := by
  funext j; unfold upI; by_cases e : j = i
  · rw [if_pos e, e]
  · rw [if_neg e]
section EV
variable {h : Hp} {M : Int} {F : Nat → Int} {A : Int → Int → Int} {e : Int → Int} {Q : Int → Hp → Prop} {Qv : Hp → Prop} {B : Int}
theorem s_waitIfHas {p : Int} (T : TT h M) (hB : 10000 ≤ B ∧ B ≤ 100000) (HO : HouseOK (A 3)) (C : CrewOK (A 9)) (P : PplOK (A 10)) (hc : 0 ≤ F 25 ∧ F 25 ≤ 4) (hb : 0 ≤ F 26 ∧ F 26 ≤ 900) (R : RowOK B (A 5)) (hz : ∀ j : Int, j < 0 ∨ 108 ≤ j → A 6 j = 0) (hp : 0 ≤ p ∧ p < 10)
    (hq : Q (wihF (A 10) (evF (A 3) (A 9) (A 10) (F 25).toNat (F 26) (A 5)) (F 26) p) (blk h M 15 F (upR A 6 (evF (A 3) (A 9) (A 10) (F 25).toNat (F 26) (A 5))))) : g_X4_waitIfHas M p Q (blk h M 15 F A) := by
  have RE := (evF_ok (q := A 10) (cm := (F 25).toNat) (bell := F 26) hB.1 HO C (by omega) hb R).1
  unfold g_X4_waitIfHas g_X4_waitIfHas_b24
  unfold wihF at hq
  refine t_evening T hB HO C P hc hb R hz (fun _ => t_fateOf hp (fun _ => ⟨fun c => ?_, fun c => t_waitOf hB P RE hb hp (fun _ => ?_)⟩))
  · rw [if_neg (by omega)] at hq; exact hq
  · rw [if_pos c] at hq; exact hq

theorem p_bestPlace {p : Int} (T : TT h M) (hB : 10000 ≤ B ∧ B ≤ 100000) (S : Scr F A) (hH : HR B F A)
    (no : ¬ isP F A p → ∀ F' A', Post F A 1 F' A' → Q (-1) (blk h M 15 F' A'))
    (no5 : isP F A p → A 5 (12 + 8 * p + 0) ≠ 0 → ∀ F' A', Post F A 5 F' A' → Q (-1) (blk h M 15 F' A'))
    (yes : isP F A p → A 5 (12 + 8 * p + 0) = 0 → ∀ F' A', Post F A 0 F' A' → Q (minN (plV (A 3) (A 5) p 1) (-2) 1000000 (A 3 1).toNat).1 (blk h M 15 F' A')) : g_X4_bestPlace M p Q (blk h M 15 F A) := by
  unfold g_X4_bestPlace
  refine t_good (fun _ => t_isPerson (fun z => (hH z).1) (fun _ => ⟨fun c1 => ?_, fun c1 => t_no (fun _ => no (zero_of c1) _ _ (post_no S))⟩))
  have c1 : isP F A p := one_of c1
  obtain ⟨HO, R⟩ := hH c1.1
  have hn := HO.pm
  have hbl := HO.bell
  have hcm := HO.sm
  have hlg := HO.long
  have hp : 0 ≤ p ∧ p < 10 := ⟨c1.2.1, by omega⟩
  refine s_hasCome hp (fun _ => ⟨fun c3 => ?_, fun c3 => t_no (fun _ => no5 c1 (one_of c3) _ _ (post_no S))⟩)
  have c3 : A 5 (12 + 8 * p + 0) = 0 := Classical.byContradiction (zero_of c3)
  refine t_asTold T HO S.1 (fun c q hc hqq _ => ?_)
  rintro m43 rfl
  rw [tw_3, blk_setF, show upR (upR A 9 c) 10 q 3 = A 3 from rfl]
  generalize hF9 : upN (upN (gF F) 25 (A 3 4)) 26 (A 3 2) = F9
  generalize hA9 : upR (upR A 9 c) 10 q = A9
  have x25 : F9 25 = A 3 4 := by rw [← hF9]; rfl
  have x26 : F9 26 = A 3 2 := by rw [← hF9]; rfl
  have xf : ∀ j : Nat, j ≠ 0 → j ≠ 11 → j ≠ 25 → j ≠ 26 → F9 j = F j := fun j h0 h1 h2 h3 => by rw [← hF9, upN_ne h3, upN_ne h2, gF_o h0 h1]
  have xf0 : F9 0 = 0 := by rw [← hF9]; rfl
  have xf1 : F9 11 = 0 := by rw [← hF9]; rfl
  have y5 : A9 5 = A 5 := by rw [← hA9]; rfl
  refine ⟨(by first | omega | (unfold i32; omega)), (by first | omega | (unfold i32; omega)), (by first | omega | (unfold i32; omega)), ?_⟩
  rintro y55 rfl
  refine ⟨(by first | omega | (unfold i32; omega)), ?_⟩
  rintro y62 rfl
  rw [tw_5, y5]
  refine Lp5_ind (k := (A 3 1).toNat) (fun m a b d g i h' => ∃ (j : Nat) (A' : Int → Int → Int) (x : Int), j ≤ (A 3 1).toNat ∧ m = (A 3 1).toNat - j ∧ i = j ∧ a = 12 + 8 * p + 1 ∧ b = A 5 (12 + 8 * p + 1) ∧ d = (minN (plV (A 3) (A 5) p 1) (-2) 1000000 j).1 ∧ g = (minN (plV (A 3) (A 5) p 1) (-2) 1000000 j).2 ∧ h' = blk h M 15 F9 A' ∧
    A' 1 = A 1 ∧ A' 3 = A 3 ∧ A' 5 = upI (A 5) (12 + 8 * p + 1) x ∧ A' 7 = A 7 ∧ A' 8 = A 8 ∧ A' 9 = c ∧ A' 10 = q ∧ ∀ j : Int, j < 0 ∨ 108 ≤ j → A' 6 j = 0) ?_ ⟨0, A9, A 5 (12 + 8 * p + 1), by omega, by omega, rfl, rfl, rfl, rfl, rfl, rfl, by rw [← hA9]; rfl, by rw [← hA9]; rfl, by rw [y5, upI_id], by rw [← hA9]; rfl, by rw [← hA9]; rfl, by rw [← hA9]; rfl, by rw [← hA9]; rfl, by rw [← hA9]; exact S.2.1⟩
  rintro m a b d g i h' ⟨j, A', x, hj, rfl, rfl, rfl, rfl, rfl, rfl, rfl, a1, a3, a5, a7, a8, a9, a10, a6⟩ K hK
  unfold g_X4_bestPlace_L75
  try simp only [tw_3, a3]
  refine ⟨fun c4 => ?_, fun c4 => ⟨(by first | omega | (unfold i32; omega)), ?_⟩⟩
  · unfold g_X4_bestPlace_b125
    refine ⟨(by first | omega | (unfold i32; omega)), ?_⟩
    rintro m131 rfl
    rw [tws_5, a5, upI_up, upI_id]
    have ej : j = (A 3 1).toNat := by omega
    rw [ej]
    exact yes c1 c3 F9 _ ⟨⟨⟨a1, a3, upR_eq, a7, a8⟩, fun j h0 h1 h2 h3 _ _ _ => xf j h0 h1 h2 h3, by rw [upR_ne (by omega), a9]; exact hc.1, a6, by rw [x25]; omega, by rw [x25]; omega⟩, xf0, xf1⟩
  · rintro m93 rfl
    rw [tws_5, a5, upI_up]
    have RU : RowOK B (upI (A 5) (12 + 8 * p + 1) j) := R.up hp ⟨by omega, by omega⟩ (by omega)
    have ev : evF (A 3) c q (A 3 4).toNat (A 3 2) (upI (A 5) (12 + 8 * p + 1) j) = evT (A 3) (upI (A 5) (12 + 8 * p + 1) j) := evT_of HO hc hqq
    have RE := (evF_ok (q := q) (cm := (A 3 4).toNat) (bell := A 3 2) hB.1 HO hc.1 (by omega) ⟨by omega, by omega⟩ RU).1
    refine s_waitIfHas T hB (by rw [upR_ne (by omega), a3]; exact HO) (by rw [upR_ne (by omega), a9]; exact hc.1) (by rw [upR_ne (by omega), a10]; exact hqq.1) (by rw [x25]; omega) (by rw [x26]; omega) (by rw [upR_eq]; exact RU) (by rw [upR_ne (by omega)]; exact a6) hp (fun _ => ?_)
    rw [upR_eq, upR_ne (by omega), upR_ne (by omega), upR_ne (by omega), a3, a9, a10, x25, x26]
    have ve : wihF q (evF (A 3) c q (A 3 4).toNat (A 3 2) (upI (A 5) (12 + 8 * p + 1) j)) (A 3 2) p = plV (A 3) (A 5) p 1 j := by
      unfold plV wihF
      rw [waitF_cg (eqQ_as hqq) hp, ev]
    rw [ve]
    unfold g_X4_bestPlace_b119
    have nx : ∀ (d2 g2 : Int), d2 = (minN (plV (A 3) (A 5) p 1) (-2) 1000000 (j + 1)).1 → g2 = (minN (plV (A 3) (A 5) p 1) (-2) 1000000 (j + 1)).2 → ∀ y : Int, y = (j : Int) + 1 → K (12 + 8 * p + 1) (A 5 (12 + 8 * p + 1)) d2 g2 y (blk h M 15 F9 (upR (upR A' 5 (upI (A 5) (12 + 8 * p + 1) j)) 6 (evF (A 3) c q (A 3 4).toNat (A 3 2) (upI (A 5) (12 + 8 * p + 1) j)))) := fun d2 g2 e1 e2 y ey =>
      hK ((A 3 1).toNat - (j + 1)) _ _ _ _ _ _ (by omega) ⟨j + 1, _, j, by omega, rfl, by omega, rfl, rfl, e1, e2, rfl, a1, a3, rfl, a7, a8, a9, a10, fun t ht => by rw [upR_eq]; exact RE.out t ht⟩
    refine ⟨fun c5 => ⟨(by first | omega | (unfold i32; omega)), nx _ _ ?_ ?_⟩, fun c5 => ⟨(by first | omega | (unfold i32; omega)), nx _ _ ?_ ?_⟩⟩
    · simp only [minN]; rw [if_pos c5]
    · simp only [minN]; rw [if_pos c5]
    · simp only [minN]; rw [if_neg (by omega)]
    · simp only [minN]; rw [if_neg (by omega)]

theorem p_leastLook {p : Int} (T : TT h M) (hB : 10000 ≤ B ∧ B ≤ 100000) (S : Scr F A) (hH : HR B F A)
    (no : ¬ isP F A p → ∀ F' A', Post F A 1 F' A' → Q (-1) (blk h M 15 F' A'))
    (no5 : isP F A p → A 5 (12 + 8 * p + 0) ≠ 0 → ∀ F' A', Post F A 5 F' A' → Q (-1) (blk h M 15 F' A'))
    (yes : isP F A p → A 5 (12 + 8 * p + 0) = 0 → ∀ F' A', Post F A 0 F' A' → Q (minN (plV (A 3) (A 5) p 2) (-2) 1000000 100).1 (blk h M 15 F' A')) : g_X4_leastLook M p Q (blk h M 15 F A) := by
  unfold g_X4_leastLook
  refine t_good (fun _ => t_isPerson (fun z => (hH z).1) (fun _ => ⟨fun c1 => ?_, fun c1 => t_no (fun _ => no (zero_of c1) _ _ (post_no S))⟩))
  have c1 : isP F A p := one_of c1
  obtain ⟨HO, R⟩ := hH c1.1
  have hn := HO.pm
  have hbl := HO.bell
  have hcm := HO.sm
  have hlg := HO.long
  have hp : 0 ≤ p ∧ p < 10 := ⟨c1.2.1, by omega⟩
  refine s_hasCome hp (fun _ => ⟨fun c3 => ?_, fun c3 => t_no (fun _ => no5 c1 (one_of c3) _ _ (post_no S))⟩)
  have c3 : A 5 (12 + 8 * p + 0) = 0 := Classical.byContradiction (zero_of c3)
  refine t_asTold T HO S.1 (fun c q hc hqq _ => ?_)
  rintro m43 rfl
  rw [tw_3, blk_setF, show upR (upR A 9 c) 10 q 3 = A 3 from rfl]
  generalize hF9 : upN (upN (gF F) 25 (A 3 4)) 26 (A 3 2) = F9
  generalize hA9 : upR (upR A 9 c) 10 q = A9
  have x25 : F9 25 = A 3 4 := by rw [← hF9]; rfl
  have x26 : F9 26 = A 3 2 := by rw [← hF9]; rfl
  have xf : ∀ j : Nat, j ≠ 0 → j ≠ 11 → j ≠ 25 → j ≠ 26 → F9 j = F j := fun j h0 h1 h2 h3 => by rw [← hF9, upN_ne h3, upN_ne h2, gF_o h0 h1]
  have xf0 : F9 0 = 0 := by rw [← hF9]; rfl
  have xf1 : F9 11 = 0 := by rw [← hF9]; rfl
  have y5 : A9 5 = A 5 := by rw [← hA9]; rfl
  refine ⟨(by first | omega | (unfold i32; omega)), (by first | omega | (unfold i32; omega)), (by first | omega | (unfold i32; omega)), ?_⟩
  rintro y55 rfl
  refine ⟨(by first | omega | (unfold i32; omega)), ?_⟩
  rintro y62 rfl
  rw [tw_5, y5]
  refine Lp5_ind (k := 100) (fun m a b d g i h' => ∃ (j : Nat) (A' : Int → Int → Int) (x : Int), j ≤ 100 ∧ m = 100 - j ∧ i = j ∧ a = 12 + 8 * p + 2 ∧ b = A 5 (12 + 8 * p + 2) ∧ d = (minN (plV (A 3) (A 5) p 2) (-2) 1000000 j).1 ∧ g = (minN (plV (A 3) (A 5) p 2) (-2) 1000000 j).2 ∧ h' = blk h M 15 F9 A' ∧
    A' 1 = A 1 ∧ A' 3 = A 3 ∧ A' 5 = upI (A 5) (12 + 8 * p + 2) x ∧ A' 7 = A 7 ∧ A' 8 = A 8 ∧ A' 9 = c ∧ A' 10 = q ∧ ∀ j : Int, j < 0 ∨ 108 ≤ j → A' 6 j = 0) ?_ ⟨0, A9, A 5 (12 + 8 * p + 2), by omega, by omega, rfl, rfl, rfl, rfl, rfl, rfl, by rw [← hA9]; rfl, by rw [← hA9]; rfl, by rw [y5, upI_id], by rw [← hA9]; rfl, by rw [← hA9]; rfl, by rw [← hA9]; rfl, by rw [← hA9]; rfl, by rw [← hA9]; exact S.2.1⟩
  rintro m a b d g i h' ⟨j, A', x, hj, rfl, rfl, rfl, rfl, rfl, rfl, rfl, a1, a3, a5, a7, a8, a9, a10, a6⟩ K hK
  unfold g_X4_leastLook_L75
  try simp only [tw_3, a3]
  refine ⟨fun c4 => ?_, fun c4 => ⟨(by first | omega | (unfold i32; omega)), ?_⟩⟩
  · unfold g_X4_leastLook_b121
    refine ⟨(by first | omega | (unfold i32; omega)), ?_⟩
    rintro m131 rfl
    rw [tws_5, a5, upI_up, upI_id]
    have ej : j = 100 := by omega
    rw [ej]
    exact yes c1 c3 F9 _ ⟨⟨⟨a1, a3, upR_eq, a7, a8⟩, fun j h0 h1 h2 h3 _ _ _ => xf j h0 h1 h2 h3, by rw [upR_ne (by omega), a9]; exact hc.1, a6, by rw [x25]; omega, by rw [x25]; omega⟩, xf0, xf1⟩
  · rintro m93 rfl
    rw [tws_5, a5, upI_up]
    have RU : RowOK B (upI (A 5) (12 + 8 * p + 2) j) := R.up hp ⟨by omega, by omega⟩ (by omega)
    have ev : evF (A 3) c q (A 3 4).toNat (A 3 2) (upI (A 5) (12 + 8 * p + 2) j) = evT (A 3) (upI (A 5) (12 + 8 * p + 2) j) := evT_of HO hc hqq
    have RE := (evF_ok (q := q) (cm := (A 3 4).toNat) (bell := A 3 2) hB.1 HO hc.1 (by omega) ⟨by omega, by omega⟩ RU).1
    refine s_waitIfHas T hB (by rw [upR_ne (by omega), a3]; exact HO) (by rw [upR_ne (by omega), a9]; exact hc.1) (by rw [upR_ne (by omega), a10]; exact hqq.1) (by rw [x25]; omega) (by rw [x26]; omega) (by rw [upR_eq]; exact RU) (by rw [upR_ne (by omega)]; exact a6) hp (fun _ => ?_)
    rw [upR_eq, upR_ne (by omega), upR_ne (by omega), upR_ne (by omega), a3, a9, a10, x25, x26]
    have ve : wihF q (evF (A 3) c q (A 3 4).toNat (A 3 2) (upI (A 5) (12 + 8 * p + 2) j)) (A 3 2) p = plV (A 3) (A 5) p 2 j := by
      unfold plV wihF
      rw [waitF_cg (eqQ_as hqq) hp, ev]
    rw [ve]
    unfold g_X4_leastLook_b115
    have nx : ∀ (d2 g2 : Int), d2 = (minN (plV (A 3) (A 5) p 2) (-2) 1000000 (j + 1)).1 → g2 = (minN (plV (A 3) (A 5) p 2) (-2) 1000000 (j + 1)).2 → ∀ y : Int, y = (j : Int) + 1 → K (12 + 8 * p + 2) (A 5 (12 + 8 * p + 2)) d2 g2 y (blk h M 15 F9 (upR (upR A' 5 (upI (A 5) (12 + 8 * p + 2) j)) 6 (evF (A 3) c q (A 3 4).toNat (A 3 2) (upI (A 5) (12 + 8 * p + 2) j)))) := fun d2 g2 e1 e2 y ey =>
      hK (100 - (j + 1)) _ _ _ _ _ _ (by omega) ⟨j + 1, _, j, by omega, rfl, by omega, rfl, rfl, e1, e2, rfl, a1, a3, rfl, a7, a8, a9, a10, fun t ht => by rw [upR_eq]; exact RE.out t ht⟩
    refine ⟨fun c5 => ⟨(by first | omega | (unfold i32; omega)), nx _ _ ?_ ?_⟩, fun c5 => ⟨(by first | omega | (unfold i32; omega)), nx _ _ ?_ ?_⟩⟩
    · simp only [minN]; rw [if_pos c5]
    · simp only [minN]; rw [if_pos c5]
    · simp only [minN]; rw [if_neg (by omega)]
    · simp only [minN]; rw [if_neg (by omega)]

end EV
