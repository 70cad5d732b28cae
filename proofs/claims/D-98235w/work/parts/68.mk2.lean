/-! LAYER 2: a component's bar as it is at first; another one's taken over; a copy -/
theorem lfP_p {q : Int → Int} {p : Int} : ∀ n : Nat, 0 ≤ p → p < n → lfP q n (12 + 8 * p + 0) = 0 ∧ lfP q n (12 + 8 * p + 1) = q (7 * p + 3) ∧ lfP q n (12 + 8 * p + 2) = q (7 * p + 5) ∧ lfP q n (12 + 8 * p + 3) = saysF q p ∧ lfP q n (12 + 8 * p + 4) = -2 ∧ lfP q n (12 + 8 * p + 5) = -2 ∧ lfP q n (12 + 8 * p + 6) = -2 ∧ lfP q n (12 + 8 * p + 7) = -2
  | 0, h1, h2 => by omega
  | n + 1, h1, h2 => by
    have nz : ∀ m : Nat, m ≤ n → lfP q m (12 + 8 * (n : Int) + 0) = 0 := by
      intro m
      induction m with
      | zero => intro _; rfl
      | succ m ih =>
        intro hm
        show lfW q (lfP q m) m (12 + 8 * (n : Int) + 0) = 0
        unfold lfW
        rw [upI_ne (by omega), upI_ne (by omega), upI_ne (by omega), upI_ne (by omega), upI_ne (by omega), upI_ne (by omega), upI_ne (by omega)]
        exact ih (by omega)
    show lfW q (lfP q n) n (12 + 8 * p + 0) = 0 ∧ lfW q (lfP q n) n (12 + 8 * p + 1) = _ ∧ lfW q (lfP q n) n (12 + 8 * p + 2) = _ ∧ lfW q (lfP q n) n (12 + 8 * p + 3) = _ ∧ lfW q (lfP q n) n (12 + 8 * p + 4) = _ ∧ lfW q (lfP q n) n (12 + 8 * p + 5) = _ ∧ lfW q (lfP q n) n (12 + 8 * p + 6) = _ ∧ lfW q (lfP q n) n (12 + 8 * p + 7) = _
    by_cases e : p = n
    · subst e
      have z := nz n (Nat.le_refl n)
      unfold lfW
      refine ⟨?_, ?_, ?_, ?_, ?_, ?_, ?_, ?_⟩
      · rw [upI_ne (by omega), upI_ne (by omega), upI_ne (by omega), upI_ne (by omega), upI_ne (by omega), upI_ne (by omega), upI_ne (by omega)]; exact z
      · rw [upI_ne (by omega), upI_ne (by omega), upI_ne (by omega), upI_ne (by omega), upI_ne (by omega), upI_ne (by omega), upI_eq]
      · rw [upI_ne (by omega), upI_ne (by omega), upI_ne (by omega), upI_ne (by omega), upI_ne (by omega), upI_eq]
      · rw [upI_ne (by omega), upI_ne (by omega), upI_ne (by omega), upI_ne (by omega), upI_eq]
      · rw [upI_ne (by omega), upI_ne (by omega), upI_ne (by omega), upI_eq]
      · rw [upI_ne (by omega), upI_ne (by omega), upI_eq]
      · rw [upI_ne (by omega), upI_eq]
      · rw [upI_eq]
    · have ih := lfP_p (q := q) n h1 (by omega)
      have k : ∀ i : Int, 0 ≤ i → i < 8 → lfW q (lfP q n) n (12 + 8 * p + i) = lfP q n (12 + 8 * p + i) := fun i i1 i2 => by
        unfold lfW
        rw [upI_ne (by omega), upI_ne (by omega), upI_ne (by omega), upI_ne (by omega), upI_ne (by omega), upI_ne (by omega), upI_ne (by omega)]
      rw [k 0 (by omega) (by omega), k 1 (by omega) (by omega), k 2 (by omega) (by omega), k 3 (by omega) (by omega), k 4 (by omega) (by omega), k 5 (by omega) (by omega), k 6 (by omega) (by omega), k 7 (by omega) (by omega)]
      exact ih
theorem lfP_o {q : Int → Int} {j : Int} : ∀ n : Nat, n ≤ 10 → (j < 12 ∨ 92 ≤ j) → lfP q n j = 0
  | 0, _, _ => rfl
  | n + 1, hn, hj => by
    show lfW q (lfP q n) n j = 0
    unfold lfW
    rw [upI_ne (by omega), upI_ne (by omega), upI_ne (by omega), upI_ne (by omega), upI_ne (by omega), upI_ne (by omega), upI_ne (by omega)]
    exact lfP_o n (by omega) hj
theorem lfS_lo {q c : Int → Int} {n : Nat} {j : Int} : ∀ s : Nat, j < 92 → lfS q c n s j = lfP q n j
  | 0, _ => rfl
  | s + 1, hj => by
    show upI (lfS q c n s) (92 + 4 * s) _ j = _
    rw [upI_ne (by omega)]; exact lfS_lo s hj
theorem lfS_hi {q c : Int → Int} {n : Nat} (hn : n ≤ 10) {x i : Int} (hx : 0 ≤ x) (hi : 0 ≤ i ∧ i < 4) : ∀ s : Nat, lfS q c n s (92 + 4 * x + i) = if x < s ∧ i = 0 then c (6 * x + 1) else 0
  | 0 => by
    rw [if_neg (by omega)]
    exact lfP_o n hn (by omega)
  | s + 1 => by
    show upI (lfS q c n s) (92 + 4 * s) (c (6 * s + 1)) (92 + 4 * x + i) = _
    by_cases e : x = s ∧ i = 0
    · rw [e.1, e.2, Int.add_zero, upI_eq, if_pos ⟨by omega, rfl⟩]
    · rw [upI_ne (by omega), lfS_hi hn hx hi s]
      by_cases z : x < (s : Int) ∧ i = 0
      · rw [if_pos z, if_pos (by omega)]
      · rw [if_neg z, if_neg (by omega)]
theorem HI_lfS {q c : Int → Int} {n s : Nat} (hn : n ≤ 10) (hc : ∀ p : Int, 0 ≤ p → p < n → 0 ≤ q (7 * p + 2)) : HI q (lfS q c n s) n := by
  have e0 : ∀ j : Int, j < 12 → lfS q c n s j = 0 := fun j hj => by rw [lfS_lo s (by omega)]; exact lfP_o n hn (Or.inl hj)
  refine ⟨fun p p1 p2 => ?_, ?_⟩
  · have k : ∀ i : Int, i < 8 → lfS q c n s (12 + 8 * p + i) = lfP q n (12 + 8 * p + i) := fun i i2 => lfS_lo s (by omega)
    obtain ⟨a0, -, -, -, a4, -, a6, a7⟩ := lfP_p (q := q) n p1 p2
    unfold PI
    rw [k 0 (by omega), k 4 (by omega), k 6 (by omega), k 7 (by omega), a0, a4, a6, a7, e0 0 (by omega)]
    exact ⟨by omega, fun _ => ⟨rfl, rfl, hc p p1 p2⟩, fun z => absurd z (by omega), fun z => absurd z (by omega), fun z => absurd z (by omega), fun _ => rfl⟩
  · refine ⟨by rw [e0 1 (by omega)]; omega, fun k k1 k2 => ?_, fun k k1 k2 => ?_, fun p p1 p2 hd => ?_, fun x x1 x2 => ?_⟩
    · rw [e0 1 (by omega)] at k2; omega
    · rw [e0 1 (by omega)] at k2; omega
    · rw [lfS_lo s (by omega), (lfP_p (q := q) n p1 p2).1] at hd; omega
    · rw [lfS_hi hn x1 ⟨by omega, by omega⟩, if_neg (by omega)]; omega
section B
variable {h : Hp} {b o hb : Int} {r c q row : Int → Int} {cm : Nat} {F : Nat → Int} {A : Int → Int → Int} {Q : Int → Hp → Prop} {Qv : Hp → Prop} {B : Int}
/-- one takes on a manner -/
theorem c_takesManner (HO : HouseOK r) (Hh : HouseAt (blk h b 21 F A) o r hb) {p m k by' hb2 : Int} (e0 : F 0 = o) (hp : 0 ≤ p ∧ p < r 5) (M : ManAt (blk h b 21 F A) m k by' hb2) (hm : m ≠ b) (hk : 0 ≤ k ∧ k ≤ 3) (hb1 : 0 ≤ by' ∧ by' ≤ 99)
    (hq : Qv (blk h b 21 F (upR (upR A 4 (upI (A 4) p (r (41 + (7 * p + 2)) + (if k = 1 then - by' else if k = 2 then by' else 0)))) 13 (upI (A 13) p (if k = 3 then 1 else 0))))) : g_X21_takesManner b p m Qv (blk h b 21 F A) := by
  have hn := HO.pm
  have hc := HO.comes p hp.1 (by omega)
  obtain ⟨m1, m2, -⟩ := M
  unfold g_X21_takesManner
  simp only [blk_F]
  rw [e0]
  refine ⟨Hh.lay, Hh.per hp (fun P _ => ⟨P.1, ?_⟩)⟩
  rintro K23 rfl
  have ec := P.2.2.1
  have fin : ∀ (v w : Int), v = r (41 + (7 * p + 2)) + (if k = 1 then - by' else if k = 2 then by' else 0) → w = (if k = 3 then 1 else 0) → ∀ mm : Hp, mm = setA (blk h b 21 F (upR A 4 (upI (A 4) p v))) (b + 13) p w → Qv mm := by
    rintro v w rfl rfl mm rfl
    rw [bas_13, upR_ne (show (13 : Int) ≠ 4 by omega)]; exact hq
  have k4 : k = 0 ∨ k = 1 ∨ k = 2 ∨ k = 3 := by omega
  have mT : ∀ A2 : Int → Int → Int, hT (blk h b 21 F A2) m = 23 + k := fun _ => m1
  unfold g_X2_says g_X3_says g_X18_says g_X2_says
  rw [m1, ec]
  have stp : ∀ v : Int, v = r (41 + (7 * p + 2)) + (if k = 1 then - by' else if k = 2 then by' else 0) → ((0 : Int) ≤ p ∧ p < 10) ∧ (∀ m26 : Hp, m26 = setA (blk h b 21 F A) (b + 4) p v → (∀ K_33 : Int → Hp → Prop, K_33 = (fun (r33 : Int) (m33 : Hp) => Ext m26 m33 → (((0 : Int) ≤ p ∧ p < 10) ∧ ((r33 = 0 ∨ r33 = 1) ∧ (∀ m36 : Hp, m36 = setA m33 (b + 13) p r33 → (Qv m36))))) → ((hT m26 m = 23 ∨ hT m26 m = 24 ∨ hT m26 m = 25 ∨ hT m26 m = 26) ∧ (hT m26 m = 23 → g_X2_isRegular m K_33 m26) ∧ (hT m26 m = 24 → g_X2_isRegular m K_33 m26) ∧ (hT m26 m = 25 → g_X2_isRegular m K_33 m26) ∧ (hT m26 m = 26 → g_X19_isRegular m K_33 m26)))) := by
    intro v hv
    refine ⟨(by first | omega | (unfold i32; omega)), ?_⟩
    rintro m26 rfl
    rw [bas_4]
    rintro K33 rfl
    rw [mT]
    unfold g_X2_isRegular g_X19_isRegular
    refine ⟨by omega, fun z _ => ⟨(by first | omega | (unfold i32; omega)), Or.inl rfl, fun mm e => fin v 0 hv (by rw [if_neg (by omega)]) mm e⟩, fun z _ => ⟨(by first | omega | (unfold i32; omega)), Or.inl rfl, fun mm e => fin v 0 hv (by rw [if_neg (by omega)]) mm e⟩, fun z _ => ⟨(by first | omega | (unfold i32; omega)), Or.inl rfl, fun mm e => fin v 0 hv (by rw [if_neg (by omega)]) mm e⟩, fun z _ => ⟨(by first | omega | (unfold i32; omega)), Or.inr rfl, fun mm e => fin v 1 hv (by rw [if_pos (by omega)]) mm e⟩⟩
  refine ⟨by omega, fun z _ => stp _ ?_, fun z _ => ⟨?_, fun _ => stp _ ?_⟩, fun z _ => ⟨?_, fun _ => stp _ ?_⟩, fun z _ => stp _ ?_⟩
  · rw [if_neg (by omega), if_neg (by omega)]; omega
  · rw [m2]; exact (by first | omega | (unfold i32; omega))
  · rw [m2, if_pos (by omega)]; omega
  · rw [m2]; exact (by first | omega | (unfold i32; omega))
  · rw [m2, if_neg (by omega), if_pos (by omega)]
  · rw [if_neg (by omega), if_neg (by omega)]; omega
/-- one of the staff more -/
theorem c_adds {x k f1 f2 f3 f4 f5 s : Int} (hs : F 23 = s) (hs4 : 0 ≤ s ∧ s < 4) (hx : x ≠ b) (t : hT h x = 16) (tk : hT h k = 27 ∨ hT h k = 28 ∨ hT h k = 29 ∨ hT h k = 30 ∨ hT h k = 31) (e1 : hF h x 1 = k) (e2 : hF h x 2 = f1) (e3 : hF h x 3 = f2) (e4 : hF h x 4 = f3) (e5 : hF h x 5 = f4) (e6 : hF h x 6 = f5)
    (hq : ∀ A2, A2 = upR (upR (upR (upR (upR (upR (upR A 14 (upI (A 14) s k)) 15 (upI (A 15) s f1)) 16 (upI (A 16) s f2)) 17 (upI (A 17) s f3)) 18 (upI (A 18) s f4)) 19 (upI (A 19) s f5)) 21 (upI (A 21) s (-1)) → Qv (blk h b 21 (upN F 23 (s + 1)) A2)) : g_X21_adds b x Qv (blk h b 21 F A) := by
  have ex : ∀ (A2 : Int → Int → Int) (j : Nat), hF (blk h b 21 F A2) x j = hF h x j := fun A2 j => blk_Fo hx j
  unfold g_X21_adds
  simp only [blk_F, ex]
  rw [hs, e1]
  refine ⟨t, (by first | omega | (unfold i32; omega)), ?_, ?_⟩
  · show ((6 : Int), hT h k) ∈ xTak
    rcases tk with z | z | z | z | z <;> rw [z] <;> decide
  rintro m12 rfl
  rw [bas_14]
  simp only [blk_F, ex]
  rw [hs, e2]
  refine ⟨(by first | omega | (unfold i32; omega)), ?_⟩
  rintro m25 rfl
  rw [bas_15]
  simp only [blk_F, ex]
  rw [hs, e3]
  refine ⟨(by first | omega | (unfold i32; omega)), ?_⟩
  rintro m38 rfl
  rw [bas_16]
  simp only [blk_F, ex]
  rw [hs, e4]
  refine ⟨(by first | omega | (unfold i32; omega)), ?_⟩
  rintro m51 rfl
  rw [bas_17]
  simp only [blk_F, ex]
  rw [hs, e5]
  refine ⟨(by first | omega | (unfold i32; omega)), ?_⟩
  rintro m64 rfl
  rw [bas_18]
  simp only [blk_F, ex]
  rw [hs, e6]
  refine ⟨(by first | omega | (unfold i32; omega)), ?_⟩
  rintro m77 rfl
  rw [bas_19]
  simp only [blk_F]
  rw [hs]
  refine ⟨(by first | omega | (unfold i32; omega)), ?_⟩
  rintro m87 rfl
  rw [bas_21]
  simp only [blk_F]
  rw [hs]
  refine ⟨(by first | omega | (unfold i32; omega)), ?_⟩
  rintro m95 rfl
  rw [blk_setF]
  exact hq _ rfl
theorem BR.init (hn : r 5 ≤ 10 ∧ 0 ≤ r 5) (h4 : cm ≤ 4) (lay : ∀ k : Nat, 2 ≤ k → k ≤ 22 → F k = b + ((k : Int) - 1)) (f0 : F 0 = o) (f1 : F 1 = r 5) (f23 : F 23 = cm) (f24 : F 24 = 0) (f25 : F 25 = 0)
    (z1 : A 1 = fun _ => 0) (z10 : A 10 = fun _ => 0) (z11 : A 11 = fun _ => 0) (z12 : A 12 = fun _ => 0) (z20 : A 20 = fun _ => 0)
    (ap : ∀ p : Int, 0 ≤ p → p < r 5 → A 2 p = q (7 * p + 3) ∧ A 3 p = q (7 * p + 5) ∧ A 4 p = saysF q p ∧ A 5 p = (if q (7 * p + 6) = 0 then -2 else q (7 * p + 6) - 1) ∧ A 6 p = -2 ∧ A 7 p = -2 ∧ A 8 p = -2 ∧ A 13 p = (if q (7 * p + 0) = 3 then 1 else 0))
    (as : ∀ s : Int, 0 ≤ s → s < cm → hT h (A 14 s) = rtag (c (6 * s + 0)) ∧ A 15 s = c (6 * s + 1) ∧ A 16 s = c (6 * s + 2) ∧ A 17 s = c (6 * s + 3) ∧ A 18 s = c (6 * s + 4) ∧ A 19 s = c (6 * s + 5) ∧ A 21 s = -1) (rg : ∀ i : Int, 0 ≤ i → i < 10 → A 13 i = 0 ∨ A 13 i = 1) (rl : ∀ i : Int, 0 ≤ i → i < 4 → A 14 i = 0 ∨ (27 ≤ hT h (A 14 i) ∧ hT h (A 14 i) ≤ 31)) :
    BR h b o r c q (lfS q c (r 5).toNat cm) cm F A := by
  have hn5 : (r 5).toNat ≤ 10 := by omega
  have e0 : ∀ j : Int, j < 12 → lfS q c (r 5).toNat cm j = 0 := fun j hj => by rw [lfS_lo cm (by omega)]; exact lfP_o _ hn5 (Or.inl hj)
  have ep : ∀ p i : Int, 0 ≤ p → p < r 5 → i < 8 → lfS q c (r 5).toNat cm (12 + 8 * p + i) = lfP q (r 5).toNat (12 + 8 * p + i) := fun p i p1 p2 i2 => lfS_lo cm (by omega)
  have lp := fun p (p1 : 0 ≤ p) (p2 : p < r 5) => lfP_p (q := q) (r 5).toNat p1 (show p < ((r 5).toNat : Int) by omega)
  have eh : ∀ x i : Int, 0 ≤ x → x < cm → 0 ≤ i → i < 4 → lfS q c (r 5).toNat cm (92 + 4 * x + i) = if i = 0 then c (6 * x + 1) else 0 := fun x i x1 x2 i1 i2 => by
    rw [lfS_hi hn5 x1 ⟨i1, i2⟩]
    by_cases z : i = 0
    · rw [if_pos ⟨x2, z⟩, if_pos z]
    · rw [if_neg (fun y => z y.2), if_neg z]
  have pz : ∀ p : Int, pasF q (lfS q c (r 5).toNat cm) p = 0 := fun p => by
    unfold pasF; rw [e0 1 (by omega)]; rfl
  refine ⟨lay, f0, f1, f23, by rw [f24, e0 0 (by omega)], by rw [f25, e0 1 (by omega)], ?_, ?_, ?_, ?_, ?_, ?_, ?_, ?_, ?_, ?_, ?_, ?_, ?_, ?_, ?_, ?_, ?_, ?_, ?_, ?_, ?_, rg, rl⟩
  · intro p p1 p2; rw [z1, ep p 0 p1 p2 (by omega), (lp p p1 p2).1]
  · intro p p1 p2; rw [ep p 1 p1 p2 (by omega), (lp p p1 p2).2.1]; exact (ap p p1 p2).1
  · intro p p1 p2; rw [ep p 2 p1 p2 (by omega), (lp p p1 p2).2.2.1]; exact (ap p p1 p2).2.1
  · intro p p1 p2; rw [ep p 3 p1 p2 (by omega), (lp p p1 p2).2.2.2.1]; exact (ap p p1 p2).2.2.1
  · intro p p1 p2; exact (ap p p1 p2).2.2.2.1
  · intro p p1 p2; rw [ep p 4 p1 p2 (by omega), (lp p p1 p2).2.2.2.2.1]; exact (ap p p1 p2).2.2.2.2.1
  · intro p p1 p2; rw [ep p 6 p1 p2 (by omega), (lp p p1 p2).2.2.2.2.2.2.1]; exact (ap p p1 p2).2.2.2.2.2.1
  · intro p p1 p2; rw [ep p 5 p1 p2 (by omega), (lp p p1 p2).2.2.2.2.2.1]; exact (ap p p1 p2).2.2.2.2.2.2.1
  · intro p p1 p2 w; rw [ep p 0 p1 p2 (by omega), (lp p p1 p2).1] at w; omega
  · intro p p1 p2; rw [z10, pz]
  · intro p p1 p2
    rw [z11]
    unfold pusF
    rw [ep p 4 p1 p2 (by omega), (lp p p1 p2).2.2.2.2.1, if_pos rfl]
  · intro k k1 k2; rw [z12, e0 _ (by omega)]
  · intro p p1 p2; exact (ap p p1 p2).2.2.2.2.2.2.2
  · intro s s1 s2; exact (as s s1 s2).1
  · intro s s1 s2
    have := eh s 0 s1 s2 (by omega) (by omega)
    rw [Int.add_zero, if_pos rfl] at this
    rw [this]; exact (as s s1 s2).2.1
  · intro s s1 s2; exact (as s s1 s2).2.2.1
  · intro s s1 s2; exact (as s s1 s2).2.2.2.1
  · intro s s1 s2; exact (as s s1 s2).2.2.2.2.1
  · intro s s1 s2; exact (as s s1 s2).2.2.2.2.2.1
  · intro s k s1 s2 k1 k2
    rw [z20, eh s (1 + k) s1 s2 (by omega) (by omega), if_neg (by omega)]
  · intro s s1 s2
    rw [eh s 3 s1 s2 (by omega) (by omega), if_neg (by omega)]; exact (as s s1 s2).2.2.2.2.2.2
/-- the constructor's loops: people, then staff -/
theorem c_initL {m : Hp} {a : Int} (HO : HouseOK r) (H : HouseAt m o r hb) (hlo : hb ≤ a) (p0 : 1 ≤ a) (t0 : hT m a = 13) (ar : ∀ k : Nat, 1 ≤ k → k ≤ 21 → hT m (a + k) = barT k ∧ hL m (a + k) = barL k)
    (hqr : ∀ p i : Int, 0 ≤ p → p < r 5 → 0 ≤ i → i < 7 → q (7 * p + i) = r (41 + (7 * p + i))) (hcr : ∀ s i : Int, 0 ≤ s → s < r 4 → 0 ≤ i → i < 6 → c (6 * s + i) = r (23 + (6 * s + i)))
    (lay : ∀ k : Nat, 2 ≤ k → k ≤ 22 → F k = a + ((k : Int) - 1)) (f0 : F 0 = o) (f1 : F 1 = r 5) (f23 : F 23 = 0) (f24 : F 24 = 0) (f25 : F 25 = 0) (z : ∀ k : Int, 1 ≤ k → k ≤ 21 → A k = fun _ => 0)
    (hq : ∀ F' A', BR m a o r c q (lfS q c (r 5).toNat (r 4).toNat) (r 4).toNat F' A' → F' 26 = F 26 → Qv (blk m a 21 F' A')) : Lp1 (g_X21_init_L192 a o Qv) 0 (blk m a 21 F A) := by
  have hn := HO.pm
  have h4 := HO.sm
  have kf : ∀ k : Nat, 2 ≤ k → k ≤ 22 → F k = a + ((k : Int) - 1) := lay
  -- the staff
  have ph2 : ∀ A1 : Int → Int → Int, (∀ p : Int, 0 ≤ p → p < r 5 → A1 2 p = q (7 * p + 3) ∧ A1 3 p = q (7 * p + 5) ∧ A1 4 p = saysF q p ∧ A1 5 p = (if q (7 * p + 6) = 0 then -2 else q (7 * p + 6) - 1) ∧ A1 6 p = -2 ∧ A1 7 p = -2 ∧ A1 8 p = -2 ∧ A1 13 p = (if q (7 * p + 0) = 3 then 1 else 0)) → A1 1 = (fun _ => 0) → A1 10 = (fun _ => 0) → A1 11 = (fun _ => 0) → A1 12 = (fun _ => 0) → A1 20 = (fun _ => 0) → (∀ i : Int, 0 ≤ i → i < 10 → A1 13 i = 0 ∨ A1 13 i = 1) → A1 14 = (fun _ => 0) → g_X21_init_b281 a o Qv (blk m a 21 F A1) := by
    intro A1 ap y1 y10 y11 y12 y20 y13 y14
    unfold g_X21_init_b281
    refine Lp1_ind (k := (r 4).toNat) (fun mm i h' => ∃ (j : Nat) (A' : Int → Int → Int), j ≤ (r 4).toNat ∧ mm = (r 4).toNat - j ∧ i = j ∧ h' = blk m a 21 (upN F 23 j) A' ∧ (∀ k : Int, k ≠ 14 → k ≠ 15 → k ≠ 16 → k ≠ 17 → k ≠ 18 → k ≠ 19 → k ≠ 21 → A' k = A1 k) ∧
      (∀ s : Int, 0 ≤ s → s < j → hT m (A' 14 s) = rtag (c (6 * s + 0)) ∧ A' 15 s = c (6 * s + 1) ∧ A' 16 s = c (6 * s + 2) ∧ A' 17 s = c (6 * s + 3) ∧ A' 18 s = c (6 * s + 4) ∧ A' 19 s = c (6 * s + 5) ∧ A' 21 s = -1) ∧ (∀ i : Int, 0 ≤ i → i < 4 → A' 14 i = 0 ∨ (27 ≤ hT m (A' 14 i) ∧ hT m (A' 14 i) ≤ 31))) ?_ ⟨0, A1, by omega, by omega, rfl, by
        rw [show upN F 23 ((0 : Nat) : Int) = F from by
          funext k; unfold upN
          by_cases e : k = 23
          · rw [if_pos e, e, f23]; rfl
          · rw [if_neg e]], fun _ _ _ _ _ _ _ _ => rfl, fun s s1 s2 => absurd s2 (by omega), fun i _ _ => Or.inl (by rw [y14])⟩
    rintro mm i h' ⟨j, A', hj, rfl, rfl, rfl, ho, hs, hrl⟩ K hK
    have Hh : HouseAt (blk m a 21 (upN F 23 j) A') o r hb := H.lo (Lo.blk hlo)
    unfold g_X21_init_L283
    refine ⟨Hh.lay, l_size (fun _ => ?_)⟩
    rw [Hh.ls.1]
    refine ⟨fun c1 => ?_, fun c1 => l_get Hh.ls ⟨by omega, c1⟩ (fun _ => ?_)⟩
    · have ej : j = (r 4).toNat := by omega
      subst ej
      unfold g_X21_init_b315
      refine hq _ _ (BR.init ⟨by omega, by omega⟩ (by omega) (fun k k1 k2 => by rw [upN_ne (by omega)]; exact lay k k1 k2) (by rw [upN_ne (by decide)]; exact f0) (by rw [upN_ne (by decide)]; exact f1) upN_eq (by rw [upN_ne (by decide)]; exact f24) (by rw [upN_ne (by decide)]; exact f25) ?_ ?_ ?_ ?_ ?_ (fun p p1 p2 => ?_) hs ?_ hrl) (by rw [upN_ne (by decide)])
      · rw [ho 1 (by omega) (by omega) (by omega) (by omega) (by omega) (by omega) (by omega)]; exact y1
      · rw [ho 10 (by omega) (by omega) (by omega) (by omega) (by omega) (by omega) (by omega)]; exact y10
      · rw [ho 11 (by omega) (by omega) (by omega) (by omega) (by omega) (by omega) (by omega)]; exact y11
      · rw [ho 12 (by omega) (by omega) (by omega) (by omega) (by omega) (by omega) (by omega)]; exact y12
      · rw [ho 20 (by omega) (by omega) (by omega) (by omega) (by omega) (by omega) (by omega)]; exact y20
      · rw [ho 2 (by omega) (by omega) (by omega) (by omega) (by omega) (by omega) (by omega), ho 3 (by omega) (by omega) (by omega) (by omega) (by omega) (by omega) (by omega), ho 4 (by omega) (by omega) (by omega) (by omega) (by omega) (by omega) (by omega), ho 5 (by omega) (by omega) (by omega) (by omega) (by omega) (by omega) (by omega), ho 6 (by omega) (by omega) (by omega) (by omega) (by omega) (by omega) (by omega), ho 7 (by omega) (by omega) (by omega) (by omega) (by omega) (by omega) (by omega), ho 8 (by omega) (by omega) (by omega) (by omega) (by omega) (by omega) (by omega), ho 13 (by omega) (by omega) (by omega) (by omega) (by omega) (by omega) (by omega)]
        exact ap p p1 p2
      · rw [ho 13 (by omega) (by omega) (by omega) (by omega) (by omega) (by omega) (by omega)]; exact y13
    · have S := Hh.stf j (by omega) c1
      have S0 := H.stf j (by omega) c1
      have ee : el (blk m a 21 (upN F 23 j) A') (o + 2) j = el m (o + 2) j := el_lo H.ls (Lo.blk hlo) (by have := H.low; omega) (by omega)
      rw [ee] at S ⊢
      have hlx := S0.2.1
      have rb := rtag_b (r (23 + (6 * (j : Int) + 0)))
      refine ⟨S.1, lay21 p0 t0 ar _ _ (fun k k1 k2 => by rw [upN_ne (by omega)]; exact lay k k1 k2), c_adds (s := (j : Int)) upN_eq ⟨by omega, by omega⟩ (by omega) S0.1 (by have := S0.2.2.2.1; omega) rfl S0.2.2.2.2.1 S0.2.2.2.2.2.1 S0.2.2.2.2.2.2.1 S0.2.2.2.2.2.2.2.1 S0.2.2.2.2.2.2.2.2 (fun A2 eA _ => ⟨(by first | omega | (unfold i32; omega)), fun y ey => hK ((r 4).toNat - (j + 1)) _ _ (by omega) ⟨j + 1, A2, by omega, rfl, by omega, ?_, fun k k14 k15 k16 k17 k18 k19 k21 => ?_, fun s s1 s2 => ?_, fun i i1 i2 => ?_⟩⟩)⟩
      · rw [upN_up]; rfl
      · rw [eA, upR_ne k21, upR_ne k19, upR_ne k18, upR_ne k17, upR_ne k16, upR_ne k15, upR_ne k14]; exact ho k k14 k15 k16 k17 k18 k19 k21
      · rw [eA, upR_ne (show (14 : Int) ≠ 21 by omega), upR_ne (show (14 : Int) ≠ 19 by omega), upR_ne (show (14 : Int) ≠ 18 by omega), upR_ne (show (14 : Int) ≠ 17 by omega), upR_ne (show (14 : Int) ≠ 16 by omega), upR_ne (show (14 : Int) ≠ 15 by omega), upR_eq,
          upR_ne (show (15 : Int) ≠ 21 by omega), upR_ne (show (15 : Int) ≠ 19 by omega), upR_ne (show (15 : Int) ≠ 18 by omega), upR_ne (show (15 : Int) ≠ 17 by omega), upR_ne (show (15 : Int) ≠ 16 by omega), upR_eq,
          upR_ne (show (16 : Int) ≠ 21 by omega), upR_ne (show (16 : Int) ≠ 19 by omega), upR_ne (show (16 : Int) ≠ 18 by omega), upR_ne (show (16 : Int) ≠ 17 by omega), upR_eq,
          upR_ne (show (17 : Int) ≠ 21 by omega), upR_ne (show (17 : Int) ≠ 19 by omega), upR_ne (show (17 : Int) ≠ 18 by omega), upR_eq,
          upR_ne (show (18 : Int) ≠ 21 by omega), upR_ne (show (18 : Int) ≠ 19 by omega), upR_eq, upR_ne (show (19 : Int) ≠ 21 by omega), upR_eq, upR_eq]
        by_cases e : s = j
        · subst e
          rw [upI_eq, upI_eq, upI_eq, upI_eq, upI_eq, upI_eq, upI_eq, hcr j 0 (by omega) c1 (by omega) (by omega), hcr j 1 (by omega) c1 (by omega) (by omega), hcr j 2 (by omega) c1 (by omega) (by omega), hcr j 3 (by omega) c1 (by omega) (by omega), hcr j 4 (by omega) c1 (by omega) (by omega), hcr j 5 (by omega) c1 (by omega) (by omega)]
          exact ⟨S0.2.2.2.1, rfl, rfl, rfl, rfl, rfl, rfl⟩
        · rw [upI_ne e, upI_ne e, upI_ne e, upI_ne e, upI_ne e, upI_ne e, upI_ne e]
          exact hs s s1 (by omega)
      · rw [eA, upR_ne (show (14 : Int) ≠ 21 by omega), upR_ne (show (14 : Int) ≠ 19 by omega), upR_ne (show (14 : Int) ≠ 18 by omega), upR_ne (show (14 : Int) ≠ 17 by omega), upR_ne (show (14 : Int) ≠ 16 by omega), upR_ne (show (14 : Int) ≠ 15 by omega), upR_eq]
        by_cases e : i = j
        · rw [e, upI_eq]; exact Or.inr (by have := S0.2.2.2.1; omega)
        · rw [upI_ne e]; exact hrl i i1 i2
  -- the people
  refine Lp1_ind (k := (r 5).toNat) (fun mm i h' => ∃ (j : Nat) (A' : Int → Int → Int), j ≤ (r 5).toNat ∧ mm = (r 5).toNat - j ∧ i = j ∧ h' = blk m a 21 F A' ∧ A' 1 = (fun _ => 0) ∧ A' 10 = (fun _ => 0) ∧ A' 11 = (fun _ => 0) ∧ A' 12 = (fun _ => 0) ∧ A' 20 = (fun _ => 0) ∧ (∀ i : Int, 0 ≤ i → i < 10 → A' 13 i = 0 ∨ A' 13 i = 1) ∧ A' 14 = (fun _ => 0) ∧
    (∀ p : Int, 0 ≤ p → p < j → A' 2 p = q (7 * p + 3) ∧ A' 3 p = q (7 * p + 5) ∧ A' 4 p = saysF q p ∧ A' 5 p = (if q (7 * p + 6) = 0 then -2 else q (7 * p + 6) - 1) ∧ A' 6 p = -2 ∧ A' 7 p = -2 ∧ A' 8 p = -2 ∧ A' 13 p = (if q (7 * p + 0) = 3 then 1 else 0))) ?_ ⟨0, A, by omega, by omega, rfl, rfl, z 1 (by omega) (by omega), z 10 (by omega) (by omega), z 11 (by omega) (by omega), z 12 (by omega) (by omega), z 20 (by omega) (by omega), fun i _ _ => Or.inl (by rw [z 13 (by omega) (by omega)]), z 14 (by omega) (by omega), fun p p1 p2 => absurd p2 (by omega)⟩
  rintro mm i h' ⟨j, A', hj, rfl, rfl, rfl, y1, y10, y11, y12, y20, y13, y14, ap⟩ K hK
  have Hh : HouseAt (blk m a 21 F A') o r hb := H.lo (Lo.blk hlo)
  unfold g_X21_init_L192
  simp only [blk_F]
  rw [f1]
  refine ⟨fun c1 => ?_, fun c1 => ⟨Hh.lay, Hh.per ⟨by omega, c1⟩ (fun P _ => ⟨P.1, ?_⟩)⟩⟩
  · have ej : j = (r 5).toNat := by omega
    subst ej
    exact ph2 A' (fun p p1 p2 => ap p p1 (by omega)) y1 y10 y11 y12 y20 y13 y14
  · have P0 := H.ppl j (by omega) c1
    have ee : el (blk m a 21 F A') (o + 3) j = el m (o + 3) j := el_lo H.lp (Lo.blk hlo) (by have := H.low; omega) (by omega)
    rw [ee] at P ⊢
    generalize el m (o + 3) j = x at P P0 ⊢
    have hx := P0.2.1
    have px := P0.1.1
    have ex : ∀ (A2 : Int → Int → Int) (k : Nat), hF (blk m a 21 F A2) x k = hF m x k := fun A2 k => blk_Fo (by omega) k
    have F3 : F 3 = a + 2 := (kf 3 (by decide) (by decide)).trans (by omega)
    have F4 : F 4 = a + 3 := (kf 4 (by decide) (by decide)).trans (by omega)
    have F6 : F 6 = a + 5 := (kf 6 (by decide) (by decide)).trans (by omega)
    have F7 : F 7 = a + 6 := (kf 7 (by decide) (by decide)).trans (by omega)
    have F8 : F 8 = a + 7 := (kf 8 (by decide) (by decide)).trans (by omega)
    have F9 : F 9 = a + 8 := (kf 9 (by decide) (by decide)).trans (by omega)
    have tl : ∀ (A2 : Int → Int → Int) (k : Nat), 1 ≤ k → k ≤ 12 → hT (blk m a 21 F A2) (a + k) = 1 ∧ ((0 : Int) ≤ j ∧ (j : Int) < hL (blk m a 21 F A2) (a + k)) := fun A2 k k1 k2 => by
      have := ar k k1 (by omega)
      unfold barT barL at this
      rw [if_neg (by omega), if_neg (by omega), if_pos (by omega)] at this
      refine ⟨this.1, by omega, ?_⟩
      show (j : Int) < hL m (a + k)
      rw [this.2]; omega
    have hj2 : 0 ≤ (j : Int) ∧ (j : Int) < r 5 := ⟨by omega, c1⟩
    obtain ⟨p1, p2, p3, p4, p5, p6, p7, ⟨u1, u2, u3⟩, p9⟩ := P0
    simp only [blk_F]
    rw [F3]
    refine ⟨(tl _ 2 (by decide) (by decide)).1, (tl _ 2 (by decide) (by decide)).2, ?_⟩
    rintro m221 rfl
    rw [ex, p4, bas_2]
    simp only [blk_F]
    rw [F4]
    refine ⟨(tl _ 3 (by decide) (by decide)).1, (tl _ 3 (by decide) (by decide)).2, ?_⟩
    rintro m231 rfl
    rw [ex, p6, bas_3]
    simp only [blk_F]
    rw [F6]
    refine ⟨(tl _ 5 (by decide) (by decide)).1, (tl _ 5 (by decide) (by decide)).2, ?_⟩
    rintro m241 rfl
    rw [ex, p7, bas_5]
    simp only [blk_F]
    rw [F7]
    refine ⟨(tl _ 6 (by decide) (by decide)).1, (tl _ 6 (by decide) (by decide)).2, ?_⟩
    rintro m249 rfl
    rw [bas_6]
    simp only [blk_F]
    rw [F8]
    refine ⟨(tl _ 7 (by decide) (by decide)).1, (tl _ 7 (by decide) (by decide)).2, ?_⟩
    rintro m257 rfl
    rw [bas_7]
    simp only [blk_F]
    rw [F9]
    refine ⟨(tl _ 8 (by decide) (by decide)).1, (tl _ 8 (by decide) (by decide)).2, ?_⟩
    rintro m265 rfl
    rw [bas_8, ex]
    refine ⟨lay21 p0 t0 ar _ _ lay, ?_⟩
    have mb := HO.manner j (by omega) (by omega)
    have bb := HO.bys j (by omega) (by omega)
    refine c_takesManner HO (H.lo (Lo.blk hlo)) f0 hj2 (k := r (41 + (7 * (j : Int) + 0))) (by' := r (41 + (7 * (j : Int) + 1))) (hb2 := hb) ⟨u1, by rw [blk_Fo (by omega)]; exact u2, u3⟩ (by omega) mb bb (fun _ => ⟨(by first | omega | (unfold i32; omega)), fun y ey => hK ((r 5).toNat - (j + 1)) _ _ (by omega) ⟨j + 1, _, by omega, rfl, by omega, rfl, y1, y10, y11, y12, y20, fun i i1 i2 => ?_, y14, fun p q1 q2 => ?_⟩⟩)
    · show upI (A' 13) j _ i = 0 ∨ upI (A' 13) j _ i = 1
      by_cases e : i = j
      · rw [e, upI_eq]; split
        · exact Or.inr rfl
        · exact Or.inl rfl
      · rw [upI_ne e]; exact y13 i i1 i2
    by_cases e : p = j
    · subst e
      show upI (A' 2) j _ j = _ ∧ upI (A' 3) j _ j = _ ∧ upI (A' 4) j _ j = _ ∧ upI (A' 5) j _ j = _ ∧ upI (A' 6) j _ j = _ ∧ upI (A' 7) j _ j = _ ∧ upI (A' 8) j _ j = _ ∧ upI (A' 13) j _ j = _
      rw [upI_eq, upI_eq, upI_eq, upI_eq, upI_eq, upI_eq, upI_eq, upI_eq]
      unfold saysF
      rw [hqr j 0 hj2.1 c1 (by omega) (by omega), hqr j 1 hj2.1 c1 (by omega) (by omega), hqr j 2 hj2.1 c1 (by omega) (by omega), hqr j 3 hj2.1 c1 (by omega) (by omega), hqr j 5 hj2.1 c1 (by omega) (by omega), hqr j 6 hj2.1 c1 (by omega) (by omega)]
      exact ⟨rfl, rfl, rfl, rfl, rfl, rfl, rfl, rfl⟩
    · have := ap p q1 (by omega)
      show upI (A' 2) j _ p = _ ∧ upI (A' 3) j _ p = _ ∧ upI (A' 4) j _ p = _ ∧ upI (A' 5) j _ p = _ ∧ upI (A' 6) j _ p = _ ∧ upI (A' 7) j _ p = _ ∧ upI (A' 8) j _ p = _ ∧ upI (A' 13) j _ p = _
      rw [upI_ne e, upI_ne e, upI_ne e, upI_ne e, upI_ne e, upI_ne e, upI_ne e, upI_ne e]
      exact this
end B
