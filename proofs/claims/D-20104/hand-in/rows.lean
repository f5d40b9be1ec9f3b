section
/-- the grade of a score, as the class answers it -/
def fs_g (x : Int32) : Int32 := if x < 0 then 33 else if x ≤ 100 then (if x < 90 then (if x < 75 then (if x < 50 then 70 else 67) else 66) else 65) else 33
theorem fs_up {x a b : Int32} (h : x < a) (k : a.toInt ≤ b.toInt) : x < b := by
  rw [Int32.lt_iff_toInt_lt] at h ⊢
  omega
theorem fs_dn {x a b : Int32} (h : ¬ x < a) (k : b.toInt ≤ a.toInt) : ¬ x < b := by
  rw [Int32.lt_iff_toInt_lt] at h ⊢
  omega
theorem fs_100 {x : Int32} : x ≤ 100 ↔ x < 101 := by
  rw [Int32.lt_iff_toInt_lt, Int32.le_iff_toInt_le, show (100 : Int32).toInt = 100 from by decide, show (101 : Int32).toInt = 101 from by decide]
  omega
/-- the class: any post that takes the grade -/
theorem fs_x0 {post : Int32 → Prop} {x : Int32} (h : post (fs_g x)) : wpX0_grade post () x := by
  unfold fs_g at h
  unfold wpX0_grade
  refine br_c (fun a => ?_) (fun a => br_c (fun b => br_c (fun c => br_c (fun d => br_c (fun e => ?_) (fun e => ?_)) (fun d => ?_)) (fun c => ?_)) (fun b => ?_))
  · rw [if_pos a] at h
    exact h
  · rw [if_neg a, if_pos b, if_pos c, if_pos d, if_pos e] at h
    exact h
  · rw [if_neg a, if_pos b, if_pos c, if_pos d, if_neg e] at h
    exact h
  · rw [if_neg a, if_pos b, if_pos c, if_neg d] at h
    exact h
  · rw [if_neg a, if_pos b, if_neg c] at h
    exact h
  · rw [if_neg a, if_neg b] at h
    exact h
/-- the twin's loop: a bound above the score is passed over -/
theorem fs_skip {post : Int32 → St0 → Prop} {mc ms : Nat} {x : Int32} {kc ks : Nat} {a2 a36 : Nat → Int32} {n : Nat} (p i : Nat) {b : Int32} (e : a36 i = b) (hc : x < b) (hw : wX1_grade_68 post mc ms x kc ks a2 a36 n (nI p) (nI (i + 1))) (hi : i < 5 := by decide) : wX1_grade_68 post mc ms x kc ks a2 a36 (n + 1) (nI p) (nI i) :=
  pk_le 5 i (fun z => absurd z (by omega)) (fun _ => ⟨pk_in i 5 hi, br_t (by rw [nI_clamp (by omega), e]; exact hc) (nm_r (nI_1 i) hw)⟩)
/-- the twin's loop: a bound that the score has reached is counted -/
theorem fs_take {post : Int32 → St0 → Prop} {mc ms : Nat} {x : Int32} {kc ks : Nat} {a2 a36 : Nat → Int32} {n : Nat} (p i : Nat) {b : Int32} (e : a36 i = b) (hc : ¬ x < b) (hw : wX1_grade_68 post mc ms x kc ks a2 a36 n (nI (p + 1)) (nI (i + 1))) (hi : i < 5 := by decide) : wX1_grade_68 post mc ms x kc ks a2 a36 (n + 1) (nI p) (nI i) :=
  pk_le 5 i (fun z => absurd z (by omega)) (fun _ => ⟨pk_in i 5 hi, br_f (by rw [nI_clamp (by omega), e]; exact hc) (nm_r (nI_1 p) (nm_r (nI_1 i) hw))⟩)
/-- the twin's loop ends: the mark at the count -/
theorem fs_end {post : Int32 → St0 → Prop} {mc ms : Nat} {x : Int32} {kc ks : Nat} {a2 a36 : Nat → Int32} {n : Nat} (p q : Nat) {r : Int32} (e : a2 p = nI q) (er : r = nI q) (h : post r ()) (hp : p < 6 := by decide) (hq : q < 65536 := by decide) : wX1_grade_68 post mc ms x kc ks a2 a36 (n + 1) (nI p) (nI 5) := by
  subst er
  refine pk_le 5 5 (fun _ => ⟨pk_in p 6 hp, ?_⟩) (fun z => absurd z (by omega))
  rw [nI_clamp (show p < 2 ^ 31 by omega), e]
  exact ⟨(pk_charN hq).1, h⟩
/-- the twin's loop, whole, over any arrays that hold the marks and the bounds -/
theorem fs_loop {post : Int32 → St0 → Prop} {mc ms : Nat} {x : Int32} {kc ks : Nat} {a2 a36 : Nat → Int32}
    (b0 : a36 0 = 0) (b1 : a36 1 = 50) (b2 : a36 2 = 75) (b3 : a36 3 = 90) (b4 : a36 4 = 101)
    (c0 : a2 0 = nI 33) (c1 : a2 1 = nI 70) (c2 : a2 2 = nI 67) (c3 : a2 3 = nI 66) (c4 : a2 4 = nI 65) (c5 : a2 5 = nI 33)
    (h : post (fs_g x) ()) : ∃ n, wX1_grade_68 post mc ms x kc ks a2 a36 n 0 0 := by
  refine ⟨6, ?_⟩
  unfold fs_g at h
  by_cases h0 : x < 0
  · rw [if_pos h0] at h
    exact fs_skip 0 0 b0 h0 (fs_skip 0 1 b1 (fs_up h0 (by decide)) (fs_skip 0 2 b2 (fs_up h0 (by decide)) (fs_skip 0 3 b3 (fs_up h0 (by decide)) (fs_skip 0 4 b4 (fs_up h0 (by decide)) (fs_end 0 33 c0 rfl h)))))
  · rw [if_neg h0] at h
    by_cases h4 : x < 101
    · rw [if_pos (fs_100.mpr h4)] at h
      by_cases h3 : x < 90
      · rw [if_pos h3] at h
        by_cases h2 : x < 75
        · rw [if_pos h2] at h
          by_cases h1 : x < 50
          · rw [if_pos h1] at h
            exact fs_take 0 0 b0 h0 (fs_skip 1 1 b1 h1 (fs_skip 1 2 b2 h2 (fs_skip 1 3 b3 h3 (fs_skip 1 4 b4 h4 (fs_end 1 70 c1 rfl h)))))
          · rw [if_neg h1] at h
            exact fs_take 0 0 b0 h0 (fs_take 1 1 b1 h1 (fs_skip 2 2 b2 h2 (fs_skip 2 3 b3 h3 (fs_skip 2 4 b4 h4 (fs_end 2 67 c2 rfl h)))))
        · rw [if_neg h2] at h
          exact fs_take 0 0 b0 h0 (fs_take 1 1 b1 (fs_dn h2 (by decide)) (fs_take 2 2 b2 h2 (fs_skip 3 3 b3 h3 (fs_skip 3 4 b4 h4 (fs_end 3 66 c3 rfl h)))))
      · rw [if_neg h3] at h
        exact fs_take 0 0 b0 h0 (fs_take 1 1 b1 (fs_dn h3 (by decide)) (fs_take 2 2 b2 (fs_dn h3 (by decide)) (fs_take 3 3 b3 h3 (fs_skip 4 4 b4 h4 (fs_end 4 65 c4 rfl h)))))
    · rw [if_neg (fun z => h4 (fs_100.mp z))] at h
      exact fs_take 0 0 b0 h0 (fs_take 1 1 b1 (fs_dn h4 (by decide)) (fs_take 2 2 b2 (fs_dn h4 (by decide)) (fs_take 3 3 b3 (fs_dn h4 (by decide)) (fs_take 4 4 b4 h4 (fs_end 5 33 c5 rfl h)))))
/-- the twin: any post that takes the grade -/
theorem fs_x1 {post : Int32 → St0 → Prop} {mc ms : Nat} {x : Int32} (hc : 2 ≤ mc) (hs : 11 ≤ ms) (h : post (fs_g x) ()) : wpX1_grade post mc ms () x := by
  unfold wpX1_grade
  exact ⟨by omega, by omega, nm_e (nm_e (nm_e (nm_e (nm_e (nm_e ⟨hc, hs, nm_e (nm_e (nm_e (nm_e (nm_e (fs_loop rfl rfl rfl rfl rfl rfl rfl rfl rfl rfl rfl h)))))⟩)))))⟩
end
section
/-- the law's compare: class and twin answer the same grade -/
theorem fs_17 {post : Int32 → St0 → Prop} {mc ms : Nat} {z : Int32} (hc : 2 ≤ mc) (hs : 11 ≤ ms) (h : post 1 ()) : wL_lawOf_17 post mc ms z 0 0 := by
  unfold wL_lawOf_17
  exact fs_x0 ⟨2, 11, by omega, by omega, fs_x1 (by omega) (by omega) (br_t rfl h)⟩
theorem fs_law {post : Int32 → St0 → Prop} {mc ms : Nat} {a how : Int32} (hc : 2 ≤ mc) (hs : 11 ≤ ms) (h : post 1 ()) : wpL_lawOf post mc ms () a how := by
  unfold wpL_lawOf
  exact br_c (fun _ => fs_17 hc hs h) (fun _ => fs_17 hc hs h)
/-- a cell of the script: any int -/
theorem fs_cell {post : Int32 → Prop} {L : Nat} {xs : Nat → Int32} {p : Int32} (k : Nat) (hp : p = nI k) (hk : k < 2 ^ 31) (hL : L ≤ 2) (H : ∀ v, post v) : wpL_cellAt post L xs () p := by
  unfold wpL_cellAt
  exact pk_le L k (fun _ => H _) (fun z => ⟨pk_in k L z hp (by omega), H _⟩) rfl hp (by omega) hk
theorem i_vc (xs : Nat → Int32) (L : Nat) (hL : L ≤ 2) : wpL_law (fun r => r = 1) L xs := by
  unfold wpL_law
  exact fs_cell 0 rfl (by decide) hL (fun _ => fs_cell 1 rfl (by decide) hL (fun _ => ⟨2, 11, by decide, by decide, fs_law (by decide) (by decide) rfl⟩))
end
