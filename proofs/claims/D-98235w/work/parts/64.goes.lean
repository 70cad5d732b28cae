/-! LAYER 2: the component's bar goes on: begins, serves -/
/-- the history in the staff's part of a second -/
abbrev HS (q e : Int → Int) (n : Nat) : Prop := (∀ p : Int, 0 ≤ p → p < n → PI q e p (e 0 + 1)) ∧ WI e n (e 0 + 1)
section B
variable {h : Hp} {b o hb : Int} {r c q row : Int → Int} {cm : Nat} {F : Nat → Int} {A : Int → Int → Int} {Q : Int → Hp → Prop} {Qv : Hp → Prop} {B : Int}
theorem c_ends (E : BE h b o hb r c q cm) {p what : Int} (e0 : F 0 = o) (hnow : 0 ≤ F 24 ∧ F 24 ≤ 901) (hp : 0 ≤ p ∧ p < r 5) (hq : Qv (blk h b 21 F (upR (upR A 1 (upI (A 1) p what)) 9 (upI (A 9) p (F 24 - q (7 * p + 2)))))) : g_X21_ends b p what Qv (blk h b 21 F A) := by
  have hn := E.ho.pm
  have q1 := (E.qr p hp.1 hp.2).1
  have q2 := E.pe.comes p hp.1 (by omega)
  unfold g_X21_ends
  refine ⟨(by first | omega | (unfold i32; omega)), ?_⟩
  rintro m6 rfl
  rw [bas_1]
  have Hh := E.hou (F := F) (A := upR A 1 (upI (A 1) p what))
  simp only [blk_F]
  rw [e0]
  refine ⟨Hh.lay, Hh.per hp (fun P _ => ⟨P.1, ?_⟩)⟩
  rw [P.2.2.1, ← q1]
  refine ⟨(by first | omega | (unfold i32; omega)), (by first | omega | (unfold i32; omega)), ?_⟩
  rintro m34 rfl
  rw [bas_9, upR_ne (show (9 : Int) ≠ 1 by omega)]
  exact hq
theorem BR.bgn (E : BE h b o hb r c q cm) (V : BR h b o r c q row cm F A) (R : RowOK B row) (HH : HS q row (r 5).toNat) {s hd p0 done : Int} (hs : 0 ≤ s ∧ s < cm) (hh : 1 ≤ hd ∧ hd ≤ 2) (hp : 0 ≤ p0 ∧ p0 < r 5) (hw : row (12 + 8 * p0 + 0) = 1)
    {F' : Nat → Int} {A' : Int → Int → Int} (f25 : F' = upN F 25 (row 1 + 1))
    (a1 : A' 1 = upI (A 1) p0 2) (a2 : A' 2 = A 2) (a3 : A' 3 = A 3) (a4 : A' 4 = A 4) (a5 : A' 5 = A 5) (a6 : A' 6 = upI (A 6) p0 (row 0)) (a7 : A' 7 = upI (A 7) p0 s) (a8 : A' 8 = upI (A 8) p0 done) (a9 : A' 9 = upI (A 9) p0 (row 0 - q (7 * p0 + 2)))
    (a10 : ∀ p : Int, 0 ≤ p → p < r 5 → A' 10 p = if p ≠ p0 ∧ row (12 + 8 * p + 0) = 1 ∧ behind q p0 p then bOr (A 10 p) (bShl 1 p0) else A 10 p) (a11 : A' 11 p0 = puA q row p0 (r 5).toNat) (a11' : ∀ p : Int, p ≠ p0 → A' 11 p = A 11 p)
    (a12 : A' 12 = upI (A 12) (row 1) p0) (a13 : A' 13 = A 13) (a14 : A' 14 = A 14) (a15 : A' 15 = upI (A 15) s (row (12 + 8 * p0 + 1))) (a16 : A' 16 = A 16) (a17 : A' 17 = A 17) (a18 : A' 18 = A 18) (a19 : A' 19 = A 19) (a20 : A' 20 = upI (A 20) (2 * s + (hd - 1)) done) (a21 : A' 21 = upI (A 21) s p0) :
    BR h b o r c q (bgnR row s hd p0 done) cm F' A' := by
  have hn := E.ho.pm
  have h4 := E.cm4
  have hs4 : 0 ≤ s ∧ s < 4 := ⟨hs.1, by omega⟩
  have hp10 : 0 ≤ p0 ∧ p0 < 10 := ⟨hp.1, by omega⟩
  have cp := cw_pos hp10 hw
  have rm := R.room
  have sv := R.served
  have n0 := R.now
  have hr : 0 ≤ row 1 ∧ row 1 < 10 := by omega
  have hn5 : (r 5).toNat ≤ 10 := by omega
  have hpn : 0 ≤ p0 ∧ p0 < ((r 5).toNat : Int) := ⟨hp.1, by omega⟩
  obtain ⟨b4, b5, b6, b0⟩ := bgnR_4 (done := done) hs4 hh hp10 hr
  have kp : ∀ p o : Int, 0 ≤ p → p < r 5 → 0 ≤ o → o < 8 → (p ≠ p0 ∨ (o ≠ 0 ∧ o ≠ 4 ∧ o ≠ 5 ∧ o ≠ 6)) → bgnR row s hd p0 done (12 + 8 * p + o) = row (12 + 8 * p + o) := fun p o p1 p2 o1 o2 hx => bgnR_p hs4 hh hp10 hr ⟨p1, by omega⟩ ⟨o1, o2⟩ hx
  have z0 : bgnR row s hd p0 done 0 = row 0 := bgnR_0 hs4 hh hp10 hr.1
  have ok : ∀ k : Nat, k ≠ 25 → F' k = F k := fun k hk => by rw [f25]; exact upN_ne hk
  refine ⟨fun k k1 k2 => by rw [ok k (by omega)]; exact V.lay k k1 k2, by rw [ok 0 (by decide)]; exact V.house, by rw [ok 1 (by decide)]; exact V.pn, by rw [ok 23 (by decide)]; exact V.sn, by rw [ok 24 (by decide), z0]; exact V.now, ?_, ?_, ?_, ?_, ?_, ?_, ?_, ?_, ?_, ?_, ?_, ?_, ?_, ?_, ?_, ?_, ?_, ?_, ?_, ?_, ?_, ?_, by rw [a13]; exact V.rg, by rw [a14]; exact V.rl⟩
  · rw [f25, upN_eq]; rfl
  · intro p p1 p2
    rw [a1]
    by_cases e : p = p0
    · rw [e, upI_eq, b0]
    · rw [upI_ne e, kp p 0 p1 p2 (by omega) (by omega) (Or.inl e)]; exact V.does p p1 p2
  · intro p p1 p2
    rw [a2, kp p 1 p1 p2 (by omega) (by omega) (Or.inr ⟨by omega, by omega, by omega, by omega⟩)]; exact V.place p p1 p2
  · intro p p1 p2
    rw [a3, kp p 2 p1 p2 (by omega) (by omega) (Or.inr ⟨by omega, by omega, by omega, by omega⟩)]; exact V.look p p1 p2
  · intro p p1 p2
    rw [a4, kp p 3 p1 p2 (by omega) (by omega) (Or.inr ⟨by omega, by omega, by omega, by omega⟩)]; exact V.says p p1 p2
  · intro p p1 p2
    rw [a5]; exact V.shelf p p1 p2
  · intro p p1 p2
    rw [a6]
    by_cases e : p = p0
    · rw [e, upI_eq, b4]
    · rw [upI_ne e, kp p 4 p1 p2 (by omega) (by omega) (Or.inl e)]; exact V.begun p p1 p2
  · intro p p1 p2
    rw [a7]
    by_cases e : p = p0
    · rw [e, upI_eq, b6]
    · rw [upI_ne e, kp p 6 p1 p2 (by omega) (by omega) (Or.inl e)]; exact V.whom p p1 p2
  · intro p p1 p2
    rw [a8]
    by_cases e : p = p0
    · rw [e, upI_eq, b5]
    · rw [upI_ne e, kp p 5 p1 p2 (by omega) (by omega) (Or.inl e)]; exact V.had p p1 p2
  · intro p p1 p2
    rw [a9]
    by_cases e : p = p0
    · rw [e, upI_eq, b0, b4]
      intro _ _
      rw [if_pos rfl]
    · rw [upI_ne e, kp p 0 p1 p2 (by omega) (by omega) (Or.inl e), kp p 4 p1 p2 (by omega) (by omega) (Or.inl e), kp p 7 p1 p2 (by omega) (by omega) (Or.inl e)]
      exact V.wait p p1 p2
  · intro p p1 p2
    rw [a10 p p1 p2, pas_bgn hn5 hs4 hh hpn hr.2 hw HH.1 HH.2 p1 (by omega), V.pass p p1 p2]
  · intro p p1 p2
    by_cases e : p = p0
    · rw [e, a11, pus_bgn hn5 hs4 hh hpn hr.2 hw HH.1 HH.2 n0.1]
    · rw [a11' p e, pus_oth hn5 hs4 hh hpn hr.2 hw HH.1 HH.2 p1 (by omega) e]; exact V.push p p1 p2
  · intro k k1 k2
    rw [a12, bgnR_w hs4 hh hp10 hr ⟨k1, k2⟩]
    by_cases e : k = row 1
    · rw [if_pos e, e, upI_eq]
    · rw [if_neg e, upI_ne e]; exact V.served k k1 k2
  · intro p p1 p2
    rw [a13]; exact V.reg p p1 p2
  · intro x x1 x2
    rw [a14]; exact V.rule x x1 x2
  · intro x x1 x2
    rw [a15, (bgnR_s hs4 hh hp10 hr ⟨x1, by omega⟩).1]
    by_cases e : x = s
    · rw [if_pos e, e, upI_eq]
    · rw [if_neg e, upI_ne e]; exact V.stands x x1 x2
  · intro x x1 x2
    rw [a16]; exact V.frm x x1 x2
  · intro x x1 x2
    rw [a17]; exact V.til x x1 x2
  · intro x x1 x2
    rw [a18]; exact V.step x x1 x2
  · intro x x1 x2
    rw [a19]; exact V.hands x x1 x2
  · intro x k x1 x2 k1 k2
    rw [a20]
    by_cases e : x = s
    · subst e
      rw [bgnR_h hs4 hh hp10 hr ⟨by omega, by omega⟩]
      by_cases e2 : 1 + k = hd
      · rw [if_pos e2, show 2 * x + k = 2 * x + (hd - 1) by omega, upI_eq]
      · rw [if_neg e2, upI_ne (by omega)]; exact V.busy x k x1 x2 k1 k2
    · rw [upI_ne (by omega), V.busy x k x1 x2 k1 k2]
      unfold bgnR
      rw [if_neg (by omega), if_neg (by omega), if_neg (by omega), if_neg (by omega), if_neg (by omega), if_neg (by omega), if_neg (by omega), if_neg (by omega), if_neg (by omega)]
  · intro x x1 x2
    rw [a21, (bgnR_s hs4 hh hp10 hr ⟨x1, by omega⟩).2]
    by_cases e : x = s
    · rw [if_pos e, e, upI_eq]; omega
    · rw [if_neg e, upI_ne e]; exact V.last x x1 x2
theorem HS.bgn (hn : (r 5).toNat ≤ 10) {s hd p0 done : Int} (hs : 0 ≤ s ∧ s < 4) (hh : 1 ≤ hd ∧ hd ≤ 2) (hp : 0 ≤ p0 ∧ p0 < ((r 5).toNat : Int)) (hr : 0 ≤ row 1 ∧ row 1 < 10) (hw : row (12 + 8 * p0 + 0) = 1) (ht : 0 ≤ row 0) (HH : HS q row (r 5).toNat) : HS q (bgnR row s hd p0 done) (r 5).toNat := by
  have z0 : bgnR row s hd p0 done 0 = row 0 := bgnR_0 hs hh ⟨hp.1, by omega⟩ hr.1
  refine ⟨fun p p1 p2 => ?_, ?_⟩
  · rw [z0]; exact PI.bgn0 hn hs hh hp hr hw ht HH.1 p p1 p2
  · rw [z0]; exact WI.bgn hn hs hh hp hr.2 hw HH.2
theorem c_begins (E : BE h b o hb r c q cm) (V : BR h b o r c q row cm F A) (R : RowOK B row) (HH : HS q row (r 5).toNat) (hB : B ≤ 100000) {s hd p0 : Int} (hs : 0 ≤ s ∧ s < cm) (hh : 1 ≤ hd ∧ hd ≤ 2) (hp : 0 ≤ p0 ∧ p0 < r 5) (hw : row (12 + 8 * p0 + 0) = 1)
    (hq : ∀ F' A', BR h b o r c q (bgnR row s hd p0 (doneF r c row s p0)) cm F' A' → F' 26 = F 26 → Qv (blk h b 21 F' A')) : g_X21_begins b s (2 * s + (hd - 1)) p0 Qv (blk h b 21 F A) := by
  have hn := E.ho.pm
  have h4 := E.cm4
  have hs4 : 0 ≤ s ∧ s < 4 := ⟨hs.1, by omega⟩
  have hp10 : 0 ≤ p0 ∧ p0 < 10 := ⟨hp.1, by omega⟩
  have cp := cw_pos hp10 hw
  have rm := R.room
  have sv := R.served
  have n0 := R.now
  have hr : 0 ≤ row 1 ∧ row 1 < 10 := by omega
  have pb := (HH.1 p0 hp.1 (by omega)).wait hw
  have g0 : A 11 p0 = 0 := by rw [V.push p0 hp.1 hp.2]; unfold pusF; rw [if_pos pb.1]
  unfold g_X21_begins
  refine Lp1_ind (k := (r 5).toNat) (fun m i h' => ∃ (j : Nat) (f g : Int → Int), j ≤ (r 5).toNat ∧ m = (r 5).toNat - j ∧ i = j ∧ h' = blk h b 21 F (upR (upR A 10 f) 11 g) ∧ (∀ p : Int, 0 ≤ p → p < r 5 → f p = if p < j ∧ p ≠ p0 ∧ row (12 + 8 * p + 0) = 1 ∧ behind q p0 p then bOr (A 10 p) (bShl 1 p0) else A 10 p) ∧ g p0 = puA q row p0 j ∧ ∀ p : Int, p ≠ p0 → g p = A 11 p) ?_
    ⟨0, A 10, A 11, by omega, by omega, rfl, by
      rw [show upR (upR A 10 (A 10)) 11 (A 11) = A from by
        funext j; unfold upR
        by_cases e1 : j = 11
        · rw [if_pos e1, e1]
        · rw [if_neg e1]
          by_cases e2 : j = 10
          · rw [if_pos e2, e2]
          · rw [if_neg e2]], fun p p1 p2 => by rw [if_neg (by omega)], g0, fun p _ => rfl⟩
  rintro m i h' ⟨j, f, g, hj, rfl, rfl, rfl, hf, hg, hg2⟩ K hK
  have Hh := E.hou (F := F) (A := upR (upR A 10 f) 11 g)
  unfold g_X21_begins_L3
  simp only [blk_F, ba_1]
  rw [V.pn, V.house, show upR (upR A 10 f) 11 g 1 = A 1 from rfl]
  refine ⟨fun c1 => ?_, fun c1 => ?_⟩
  · have ej : j = (r 5).toNat := by omega
    subst ej
    have s1 := R.stands s hs4.1 hs4.2
    have s2 := R.place p0 hp10.1 hp10.2
    have ab : 0 ≤ (if 0 ≤ row (12 + 8 * p0 + 1) - row (92 + 4 * s) then row (12 + 8 * p0 + 1) - row (92 + 4 * s) else 0 - (row (12 + 8 * p0 + 1) - row (92 + 4 * s))) ∧ (if 0 ≤ row (12 + 8 * p0 + 1) - row (92 + 4 * s) then row (12 + 8 * p0 + 1) - row (92 + 4 * s) else 0 - (row (12 + 8 * p0 + 1) - row (92 + 4 * s))) ≤ 19 := by split <;> omega
    have ae : (if 0 ≤ row (12 + 8 * p0 + 1) - row (92 + 4 * s) then row (12 + 8 * p0 + 1) - row (92 + 4 * s) else 0 - (row (12 + 8 * p0 + 1) - row (92 + 4 * s))) = far (row (92 + 4 * s)) (row (12 + 8 * p0 + 1)) := by
      unfold far
      by_cases z : row (92 + 4 * s) < row (12 + 8 * p0 + 1)
      · rw [if_pos (by omega), if_pos z]
      · rw [if_neg z]; split <;> omega
    rw [ae] at ab
    have mu := mulB (E.cr.step s hs4.1 hs4.2) ab
    have ls := HH.2.lst s hs4.1 hs4.2
    have tb := tbF_b E.ho (last := row (92 + 4 * s + 3) - 1) hp10
    unfold g_X21_begins_b77
    simp only [blk_F, ba_2, ba_15, ba_18]
    rw [show upR (upR A 10 f) 11 g 2 = A 2 from rfl, show upR (upR A 10 f) 11 g 15 = A 15 from rfl, show upR (upR A 10 f) 11 g 18 = A 18 from rfl, V.place p0 hp.1 hp.2, V.stands s hs.1 hs.2, V.step s hs.1 hs.2, V.now, ae]
    refine ⟨(by first | omega | (unfold i32; omega)), (by first | omega | (unfold i32; omega)), (by first | omega | (unfold i32; omega)), (by first | omega | (unfold i32; omega)), (by first | omega | (unfold i32; omega)), (by first | omega | (unfold i32; omega)), (by first | omega | (unfold i32; omega)), c_time E (row := row) V.house (show upR (upR A 10 f) 11 g 21 s = _ from V.last s hs.1 hs.2) hs hp ⟨ls.1, by omega⟩ (fun _ => ⟨(by first | omega | (unfold i32; omega)), ?_⟩)⟩
    rintro y112 ey
    have ey : y112 = doneF r c row s p0 := ey
    refine ⟨(by first | omega | (unfold i32; omega)), (by first | omega | (unfold i32; omega)), ?_⟩
    rintro m125 rfl
    rw [ba_2, bas_15, show upR (upR A 10 f) 11 g 2 = A 2 from rfl, V.place p0 hp.1 hp.2]
    refine ⟨(by first | omega | (unfold i32; omega)), ?_⟩
    rintro m132 rfl
    rw [bas_21]
    refine ⟨(by first | omega | (unfold i32; omega)), ?_⟩
    rintro m140 rfl
    rw [bas_20]
    refine c_ends E V.house (by rw [V.now]; exact n0) hp (fun _ => ⟨(by first | omega | (unfold i32; omega)), ?_⟩)
    rintro m156 rfl
    rw [blk_F, bas_6, V.now]
    refine ⟨(by first | omega | (unfold i32; omega)), ?_⟩
    rintro m163 rfl
    rw [bas_7]
    refine ⟨(by first | omega | (unfold i32; omega)), ?_⟩
    rintro m171 rfl
    rw [bas_8, blk_F, V.many]
    refine ⟨(by first | omega | (unfold i32; omega)), ?_⟩
    rintro m181 rfl
    rw [bas_12, blk_F, V.many]
    refine ⟨(by first | omega | (unfold i32; omega)), ?_⟩
    rintro m189 rfl
    rw [blk_setF]
    refine hq _ _ (V.bgn E R HH (done := doneF r c row s p0) hs hh hp hw rfl rfl rfl rfl rfl rfl rfl rfl (by rw [← ey]; rfl) rfl ?_ ?_ ?_ rfl rfl rfl rfl rfl rfl rfl rfl (by rw [← ey]; rfl) rfl) rfl
    · intro p p1 p2
      show f p = _
      rw [hf p p1 p2]
      by_cases z : p ≠ p0 ∧ row (12 + 8 * p + 0) = 1 ∧ behind q p0 p
      · rw [if_pos z, if_pos ⟨by omega, z⟩]
      · rw [if_neg z, if_neg (fun y => z y.2)]
    · exact hg
    · exact hg2
  · have hj2 : 0 ≤ (j : Int) ∧ (j : Int) < r 5 := ⟨by omega, c1⟩
    rw [V.does j hj2.1 hj2.2]
    have qj := (E.qr j hj2.1 hj2.2).1
    have q0 := (E.qr p0 hp.1 hp.2).1
    have no : ¬ ((j : Int) ≠ p0 ∧ row (12 + 8 * (j : Int) + 0) = 1 ∧ behind q p0 j) → g_X21_begins_b71 b s (2 * s + (hd - 1)) p0 Qv K j (blk h b 21 F (upR (upR A 10 f) 11 g)) := by
      intro z
      unfold g_X21_begins_b71
      refine ⟨(by first | omega | (unfold i32; omega)), fun y ey => hK ((r 5).toNat - (j + 1)) _ _ (by omega) ⟨j + 1, f, g, by omega, rfl, by omega, rfl, fun p p1 p2 => ?_, ?_, hg2⟩⟩
      · rw [hf p p1 p2]
        by_cases w : p < (j : Int) ∧ p ≠ p0 ∧ row (12 + 8 * p + 0) = 1 ∧ behind q p0 p
        · rw [if_pos w, if_pos ⟨by omega, w.2⟩]
        · rw [if_neg w, if_neg (fun y => ?_)]
          by_cases e : p = j
          · rw [e] at y; exact z y.2
          · exact w ⟨by omega, y.2⟩
      · rw [hg]
        exact (if_neg z).symm
    refine ⟨fun c2 => no (fun z => z.1 c2), fun c2 => ⟨(by first | omega | (unfold i32; omega)), fun c3 => no (fun z => c3 z.2.1), fun c3 => ⟨Hh.lay, hs_isAhead Hh hj2 hp (fun _ => ⟨fun c4 => ?_, fun c4 => no (fun z => zero_of c4 ?_)⟩)⟩⟩⟩
    · have c4 := one_of c4
      have bh : behind q p0 j := c4.elim (fun w => Or.inl (by omega)) (fun w => Or.inr ⟨by omega, w.2⟩)
      refine ⟨(by first | omega | (unfold i32; omega)), (by first | omega | (unfold i32; omega)), ?_⟩
      rintro m57 rfl
      rw [ba_10, bas_10]
      refine ⟨(by first | omega | (unfold i32; omega)), (by first | omega | (unfold i32; omega)), ?_⟩
      rintro m70 rfl
      rw [ba_11, bas_11]
      unfold g_X21_begins_b71
      refine ⟨(by first | omega | (unfold i32; omega)), fun y ey => hK ((r 5).toNat - (j + 1)) _ _ (by omega) ⟨j + 1, upI f j (bOr (f j) (bShl 1 p0)), upI g p0 (bOr (g p0) (bShl 1 j)), by omega, rfl, by omega, ?_, fun p p1 p2 => ?_, ?_, fun p hne => by rw [upI_ne hne]; exact hg2 p hne⟩⟩
      · rw [show upR (upR A 10 f) 11 g 10 = f from rfl, show upR (upR (upR A 10 f) 11 g) 10 (upI f j (bOr (f j) (bShl 1 p0))) 11 = g from rfl]
        rw [show upR (upR (upR (upR A 10 f) 11 g) 10 (upI f j (bOr (f j) (bShl 1 p0)))) 11 (upI g p0 (bOr (g p0) (bShl 1 j))) = upR (upR A 10 (upI f j (bOr (f j) (bShl 1 p0)))) 11 (upI g p0 (bOr (g p0) (bShl 1 j))) from by
          funext x; unfold upR
          by_cases e1 : x = 11 <;> by_cases e2 : x = 10 <;> simp [e1, e2]]
      · by_cases e : p = j
        · subst e
          rw [upI_eq, hf _ p1 p2, if_neg (by omega), if_pos ⟨by omega, c2, c3, bh⟩]
        · rw [upI_ne e, hf p p1 p2]
          by_cases w : p < (j : Int) ∧ p ≠ p0 ∧ row (12 + 8 * p + 0) = 1 ∧ behind q p0 p
          · rw [if_pos w, if_pos ⟨by omega, w.2⟩]
          · rw [if_neg w, if_neg (fun y => w ⟨by omega, y.2⟩)]
      · rw [upI_eq, hg]
        exact (if_pos ⟨c2, c3, bh⟩).symm
    · rcases z.2.2 with w | w
      · exact Or.inl (by omega)
      · exact Or.inr ⟨by omega, w.2⟩
theorem c_serves (E : BE h b o hb r c q cm) (V : BR h b o r c q row cm F A) (R : RowOK B row) (HH : HS q row (r 5).toNat) (hB : 10000 ≤ B ∧ B ≤ 100000) {s : Int} (hs : 0 ≤ s ∧ s < cm)
    (hq : ∀ F' A', BR h b o r c q (hsN r c q (r 5).toNat (row 0) s row (c (6 * s + 5)).toNat) cm F' A' → HS q (hsN r c q (r 5).toNat (row 0) s row (c (6 * s + 5)).toNat) (r 5).toNat → F' 26 = F 26 → Qv (blk h b 21 F' A')) : g_X21_serves b s Qv (blk h b 21 F A) := by
  have hn := E.ho.pm
  have h4 := E.cm4
  have hs4 : 0 ≤ s ∧ s < 4 := ⟨hs.1, by omega⟩
  have hh := E.cr.hands s hs4.1 hs4.2
  have hn5 : (r 5).toNat ≤ 10 := by omega
  unfold g_X21_serves
  refine c_freeHand E V hs (fun _ => c_next E V R hB.2 hs (fun _ => ?_))
  refine Lp2_ind (k := (ww row).toNat) (fun m l2 l3 h' => ∃ (row' : Int → Int) (F' : Nat → Int) (A' : Int → Int → Int), h' = blk h b 21 F' A' ∧ m = (ww row').toNat ∧ BR h b o r c q row' cm F' A' ∧ RowOK B row' ∧ HS q row' (r 5).toNat ∧ row' 0 = row 0 ∧ F' 26 = F 26 ∧
    l2 = (if fhN row' (row' 0) s (c (6 * s + 5)).toNat = 0 then -1 else 2 * s + (fhN row' (row' 0) s (c (6 * s + 5)).toNat - 1)) ∧ l3 = nxN c q row' s (r 5).toNat ∧ hsN r c q (r 5).toNat (row 0) s row' (c (6 * s + 5)).toNat = hsN r c q (r 5).toNat (row 0) s row (c (6 * s + 5)).toNat) ?_ ⟨row, F, A, rfl, rfl, V, R, HH, rfl, rfl, rfl, rfl, rfl⟩
  rintro m l2 l3 h' ⟨row', F', A', rfl, rfl, V', R', HH', z0, f26, e2, e3, eh⟩ K hK
  unfold g_X21_serves_L12 g_X21_serves_b45
  have fb := fhN_b row' (row' 0) s (c (6 * s + 5)).toNat
  have stop : (fhN row' (row' 0) s (c (6 * s + 5)).toNat = 0 ∨ nxN c q row' s (r 5).toNat = -2) → Qv (blk h b 21 F' A') := by
    intro z
    have e := hsN_no (r := r) (c := c) (q := q) (n := (r 5).toNat) (s := s) (row := row') (c (6 * s + 5)).toNat z
    rw [z0, eh] at e
    rw [← e] at V' HH'
    exact hq F' A' V' HH' f26
  refine ⟨fun c1 => stop (Or.inl ?_), fun c1 => ⟨fun c2 => stop (Or.inr (by omega)), fun c2 => ?_⟩⟩
  · by_cases z : fhN row' (row' 0) s (c (6 * s + 5)).toNat = 0
    · exact z
    · rw [if_neg z] at e2; omega
  · have fz : fhN row' (row' 0) s (c (6 * s + 5)).toNat ≠ 0 := fun z => c1 (by rw [e2, if_pos z])
    rw [if_neg fz] at e2
    have nk := nx_ok (c := c) (q := q) (row := row') (s := s) hn5
    rw [← e3] at nk
    have nb := nxN_b c q row' s (r 5).toNat
    rw [← e3] at nb
    have hp : 0 ≤ l3 ∧ l3 < r 5 := by omega
    have hw : row' (12 + 8 * l3 + 0) = 1 := by
      rcases nk with z | z
      · exact absurd z c2
      · exact z.2.2
    have h12 : 1 ≤ fhN row' (row' 0) s (c (6 * s + 5)).toNat ∧ fhN row' (row' 0) s (c (6 * s + 5)).toNat ≤ 2 := by omega
    have hp10 : 0 ≤ l3 ∧ l3 < 10 := ⟨hp.1, by omega⟩
    have cp := cw_pos hp10 hw
    have rm := R'.room
    have sv := R'.served
    have hr : 0 ≤ row' 1 ∧ row' 1 < 10 := by omega
    have wp := ww_pos hp10 hw
    have R2 := RowOK.bgn (hand := fhN row' (row' 0) s (c (6 * s + 5)).toNat) hB.1 E.ho E.cr R' hs4 h12 hp10 hw
    have H2 := HS.bgn (done := doneF r c row' s l3) hn5 hs4 h12 (p0 := l3) ⟨hp.1, by omega⟩ hr hw R'.now.1 HH'
    have w9 := bgnR_ww (done := doneF r c row' s l3) hs4 h12 hp10 hr hw
    have y0 : bgnR row' s (fhN row' (row' 0) s (c (6 * s + 5)).toNat) l3 (doneF r c row' s l3) 0 = row' 0 := bgnR_0 hs4 h12 hp10 hr.1
    have go := hsN_go hn5 hB.1 E.ho E.cr hs4 R' e3 c2 (c (6 * s + 5)).toNat (by omega) rfl fz
    rw [z0, eh] at go
    rw [e2]
    refine c_begins E V' R' HH' hB.2 hs h12 hp hw (fun F2 A2 V2 f2 _ => c_freeHand E V2 hs (fun _ => c_next E V2 R2 hB.2 hs (fun _ => hK _ _ _ _ ?_ ⟨_, F2, A2, rfl, rfl, V2, R2, H2, y0.trans z0, f2.trans f26, rfl, rfl, ?_⟩)))
    · omega
    · rw [← z0] at go ⊢; rw [z0] at go ⊢; exact go
end B
