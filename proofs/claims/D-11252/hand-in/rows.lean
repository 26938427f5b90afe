section
/-! the pure picture: the top after p good packets -/
def ea_T (b p : Nat) : Nat := if p = 0 then 0 else 10 + (p - 1) * b
theorem ea_T0 (b : Nat) : ea_T b 0 = 0 := rfl
theorem ea_Ts (b p : Nat) : ea_T b (p + 1) = 10 + p * b := by
  unfold ea_T
  rw [if_neg (by omega), Nat.add_sub_cancel]
theorem ea_d {b : Nat} (p : Nat) (h1 : 1 ≤ b) (h2 : b ≤ 64) : ∃ d, 1 ≤ d ∧ d ≤ 64 ∧ 10 + p * b = ea_T b p + d := by
  cases p with
  | zero => exact ⟨10, by omega, by omega, by rw [ea_T0, Nat.zero_mul]⟩
  | succ q => exact ⟨b, h1, h2, by rw [ea_Ts, Nat.succ_mul]; omega⟩
theorem ea_bd {p b : Nat} (hp : p ≤ 60) (hb : b ≤ 64) : p * b ≤ 3840 := Nat.mul_le_mul hp hb
theorem ea_c2 : (2 : Int32).toNatClampNeg = 2 := by decide
theorem ea_i2 : vp_in (2 : Int32) 4 := pk_in 2 4 (by omega)
theorem ea_120 (n : Nat) : (60 * 2 : Int32) + nI n = nI (120 + n) := by
  rw [show (60 * 2 : Int32) = nI 120 by decide]
  exact nI_add 120 n
theorem ea_12 (n : Nat) : (6 * 2 : Int32) + nI n = nI (12 + n) := by
  rw [show (6 * 2 : Int32) = nI 12 by decide]
  exact nI_add 12 n
theorem ea_256 (h l : Nat) : (256 : Int32) * nI h + nI l = nI (256 * h + l) := by
  rw [show (256 : Int32) = nI 256 by decide, pk_mul, nI_add]
theorem ea_line {post : Int32 → Prop} (h : post 1) : wpX_isLine post () 2 := br_f (by decide) (br_f (by decide) h)
theorem ea_low {post : Int32 → Prop} (h : post 1) : wpX_isLow post () 10 := br_f (by decide) (br_f (by decide) h)
section
variable {w : Int32} {mk : Int64} {a1 a2 : Nat → Int32} {a3 : Nat → Int64} {a4 a5 a6 a7 a8 : Nat → Int32}
theorem ea_infer {post : Int32 → Prop} {h l d v : Nat} (hh : h < 1000) (hl : l < 256) (h1 : 1 ≤ d) (h2 : d ≤ 64) (hv : v = (l + d) % 256) (e1 : a1 2 = nI h) (e2 : a2 2 = nI l)
    (H : post (nI (256 * h + l + d))) : wpX_infer post (64, mk, a1, a2, a3, a4, a5, a6, a7, a8) 2 (nI v) := by
  unfold wpX_infer
  dsimp only
  rw [ea_c2, e1, e2]
  refine ⟨ea_i2, fun x ex => ⟨ea_i2, nm_e ?_⟩⟩
  have hx : x = nI l - nI 63 := by
    rw [ex]
    show nI l - 64 + 1 = nI l - 63
    grind
  by_cases c : l < 63
  · have ex' : x + 256 = nI (l + 193) := by
      rw [ex, ← nI_add l 193]
      show nI l - 64 + 1 + 256 = nI l + 193
      grind
    have hn : x < 0 := by
      rw [hx]
      exact pk_sneg (by omega) c
    refine br_t hn (pk_lt v (l + 193) (fun _ => ?_) (fun z => absurd z (by omega)) rfl ex')
    rw [ea_256, show 256 * h + v = 256 * h + l + d by omega]
    exact H
  · have hx' : x = nI (l - 63) := by
      rw [hx]
      exact pk_sub (by omega)
    refine br_f (by rw [hx']; exact nI_pos (by omega)) (pk_lt v (l - 63) (fun z => ?_) (fun z => ?_) rfl hx')
    · unfold wX_infer_40
      rw [nI_1, ea_256, show 256 * (h + 1) + v = 256 * h + l + d by omega]
      exact H
    · unfold wX_infer_40
      rw [ea_256, show 256 * h + v = 256 * h + l + d by omega]
      exact H
theorem ea_inferA {post : Int32 → Prop} {x : Int32} (H : ∀ r, post r) : wpX_infer post (w, mk, a1, a2, a3, a4, a5, a6, a7, a8) 2 x := by
  unfold wpX_infer
  dsimp only
  exact ⟨ea_i2, fun _ _ => ⟨ea_i2, fun _ _ => br_c (fun _ => br_c (fun _ => H _) (fun _ _ _ => H _)) (fun _ => br_c (fun _ => H _) (fun _ => H _))⟩⟩
theorem ea_topOf {post : Int32 → Prop} {h l : Nat} (e1 : a1 2 = nI h) (e2 : a2 2 = nI l) (H : post (nI (256 * h + l))) : wpX_topOf post (w, mk, a1, a2, a3, a4, a5, a6, a7, a8) 2 := by
  unfold wpX_topOf
  dsimp only
  rw [ea_c2, e1, e2, ea_256]
  exact ⟨ea_i2, ea_i2, H⟩
theorem ea_isSeen {post : Int32 → Prop} {h l s : Nat} (e1 : a1 2 = nI h) (e2 : a2 2 = nI l) (hT : 256 * h + l < s) (hs : s < 2 ^ 30) (H : post 0) : wpX_isSeen post (w, mk, a1, a2, a3, a4, a5, a6, a7, a8) 2 (nI s) := by
  unfold wpX_isSeen
  dsimp only
  refine ea_topOf e1 e2 (fun x ex => br_t ?_ H)
  rw [ex]
  exact pk_sneg hs hT
theorem ea_p13 {post : Int32 → Prop} {p s : Nat} (hp : p ≤ 60) (hlt : ∀ j, j < p → ¬ nI s ≤ a5 (120 + j)) (H : post (nI p)) : ∀ n f k, k + n = 8 → f ≤ p → p - f < 2 ^ n → wX_place_13 post 2 (nI s) w mk a1 a2 a3 a4 a5 a6 a7 a8 (n + 1) (nI f) (nI p) (nI k) := by
  intro n
  induction n with
  | zero =>
    intro f k hk hf hr
    have e : f = p := by
      rw [Nat.pow_zero] at hr
      omega
    rw [e]
    exact pk_le 8 k (fun _ => H) (fun z => absurd z (by omega))
  | succ n ih =>
    intro f k hk hf hr
    refine pk_le 8 k (fun z => absurd z (by omega)) (fun _ => pk_le p f (fun z => ?_) (fun z => nm_r (e' := nI ((f + p) / 2)) ?_ ?_))
    · rw [show f = p by omega]
      exact H
    · rw [nI_add]
      exact pk_shrN (by omega) _ 1 (by decide)
    · have hm : (f + p) / 2 < p := by omega
      have hr' : p - ((f + p) / 2 + 1) < 2 ^ n := by
        rw [Nat.pow_succ] at hr
        omega
      rw [ea_120, nI_clamp (by omega)]
      exact ⟨pk_in (120 + (f + p) / 2) 240 (by omega), br_f (hlt _ hm) (nm_r (nI_1 _) (nm_r (nI_1 k) (ih _ (k + 1) (by omega) (by omega) hr')))⟩
theorem ea_place {post : Int32 → Prop} {p s : Nat} (hp : p ≤ 60) (e4 : a4 2 = nI p) (hlt : ∀ j, j < p → ¬ nI s ≤ a5 (120 + j)) (H : post (nI p)) : wpX_place post (w, mk, a1, a2, a3, a4, a5, a6, a7, a8) 2 (nI s) := by
  unfold wpX_place
  dsimp only
  rw [ea_c2, e4]
  exact ⟨ea_i2, nm_e ⟨8 + 1, ea_p13 hp hlt H 8 0 0 (by omega) (by omega) (by omega)⟩⟩
theorem ea_a84 {post : St2 → Prop} {p s : Nat} (hp : p < 60) (e4 : a4 2 = nI p) (hlt : ∀ j, j < p → ¬ nI s ≤ a5 (120 + j))
    (H : post (w, mk, a1, a2, a3, upd a4 2 (nI (p + 1)), upd a5 (120 + p) (nI s), a6, a7, a8)) : wX_accept_84 post 2 (nI s) w mk a1 a2 a3 a4 a5 a6 a7 a8 := by
  unfold wX_accept_84
  refine ea_place (by omega) e4 hlt ?_
  rw [ea_c2, e4]
  refine ⟨ea_i2, nm_e ⟨0 + 1, ?_⟩⟩
  exact pk_le p p (fun _ => ⟨pk_in (120 + p) 240 (by omega) (ea_120 p), nm_r (by rw [ea_120, nI_clamp (by omega)]) ⟨ea_i2, ea_i2, nm_r (by rw [ea_c2, e4, nI_1]) H⟩⟩) (fun z => absurd z (by omega))
theorem ea_accept {post : St2 → Prop} {h l p s : Nat} (hp : p < 60) (e1 : a1 2 = nI h) (e2 : a2 2 = nI l) (e4 : a4 2 = nI p) (hlt : ∀ j, j < p → ¬ nI s ≤ a5 (120 + j)) (hT : 256 * h + l < s) (hs : s < 2 ^ 30)
    (H : ∀ b3, post (w, mk, upd a1 2 (nI (s / 256)), upd a2 2 (nI (s % 256)), b3, upd a4 2 (nI (p + 1)), upd a5 (120 + p) (nI s), a6, a7, a8)) : wpX_accept post (w, mk, a1, a2, a3, a4, a5, a6, a7, a8) 2 (nI s) := by
  unfold wpX_accept
  dsimp only
  refine ea_topOf e1 e2 (fun x ex => ?_)
  have hx : x = nI (s - (256 * h + l)) := by
    rw [ex]
    exact pk_sub (by omega)
  have q1 : nI s >>> ((8 : Int32) &&& 31) = nI (s / 256) := pk_shrN (by omega) _ 8 (by decide)
  have q2 : nI s &&& 255 = nI (s % 256) := pk_andN (by omega) 8 (by decide)
  have K : ∀ z : Int64, wX_accept_42 post 2 (nI s) z 2 w mk a1 a2 a3 a4 a5 a6 a7 a8 := by
    intro z
    unfold wX_accept_42
    rw [ea_c2, q1, q2]
    exact ⟨ea_i2, fun b3 _ => ⟨ea_i2, nm_e ⟨ea_i2, nm_e (ea_a84 hp e4 hlt (H b3))⟩⟩⟩
  exact br_f (by rw [hx]; exact nI_nle (by omega) (by omega)) (br_c (fun _ => ⟨ea_i2, K _⟩) (fun _ => K _))
theorem ea_77 {post : Int32 → St2 → Prop} (v : Nat) (hv : v ≤ 5) {x : Int32} (hx : x = nI v) (H : post x (w, mk, a1, a2, a3, a4, a5, a6, a7, upd a8 (12 + v) (a8 (12 + v) + 1))) : wX_judge_77 post 2 x w mk a1 a2 a3 a4 a5 a6 a7 a8 := by
  have e : (6 * 2 : Int32) + x = nI (12 + v) := by
    rw [hx]
    exact ea_12 v
  unfold wX_judge_77
  rw [e, nI_clamp (by omega)]
  exact ⟨pk_in (12 + v) 24 (by omega), pk_in (12 + v) 24 (by omega), nm_e H⟩
theorem ea_jgood {post : Int32 → St2 → Prop} {h l d v p m : Nat} (hh : h < 1000) (hl : l < 256) (h1 : 1 ≤ d) (h2 : d ≤ 64) (hv : v = (l + d) % 256) (hpm : p < m) (hm : m ≤ 60)
    (e1 : a1 2 = nI h) (e2 : a2 2 = nI l) (e4 : a4 2 = nI p) (e7 : a7 2 = nI m) (hlt : ∀ j, j < p → ¬ nI (256 * h + l + d) ≤ a5 (120 + j))
    (H : ∀ b3, post 1 (64, mk, upd a1 2 (nI ((256 * h + l + d) / 256)), upd a2 2 (nI ((256 * h + l + d) % 256)), b3, upd a4 2 (nI (p + 1)), upd a5 (120 + p) (nI (256 * h + l + d)), a6, a7, upd a8 13 (a8 13 + 1))) :
    wpX_judge post (64, mk, a1, a2, a3, a4, a5, a6, a7, a8) 2 (nI v) 1 := by
  unfold wpX_judge
  dsimp only
  rw [ea_c2, e4, e7]
  refine ea_infer hh hl h1 h2 hv e1 e2 ⟨ea_i2, ea_i2, pk_lt p m (fun _ => ?_) (fun z => absurd z (by omega))⟩
  refine br_t (nI_le (a := 1) (by omega) (by omega)) (ea_isSeen e1 e2 (by omega) (by omega) (br_t rfl (br_f (by decide) ?_)))
  exact ea_accept (by omega) e1 e2 e4 hlt (by omega) (by omega) (fun b3 => ea_77 1 (by omega) rfl (H b3))
theorem ea_jdead {post : Int32 → St2 → Prop} {x : Int32} {p m : Nat} (hpm : m ≤ p) (hp : p < 2 ^ 31) (e4 : a4 2 = nI p) (e7 : a7 2 = nI m)
    (H : post 5 (w, mk, a1, a2, a3, a4, a5, a6, a7, upd a8 17 (a8 17 + 1))) : wpX_judge post (w, mk, a1, a2, a3, a4, a5, a6, a7, a8) 2 x 1 := by
  unfold wpX_judge
  dsimp only
  rw [ea_c2, e4, e7]
  exact ea_inferA (fun r => ⟨ea_i2, ea_i2, pk_lt p m (fun z => absurd z (by omega)) (fun _ => ea_77 5 (by omega) rfl H)⟩)
end
end
section
/-- the picture after k packets of the burst: a line 2 with limits so, m; step b -/
def ea_I (m : Nat) (so : Int32) (b k : Nat) (a1 a2 a4 a5 a6 a7 a8 : Nat → Int32) : Prop :=
  a1 2 = nI (ea_T b (min k m) / 256) ∧ a2 2 = nI (ea_T b (min k m) % 256) ∧ a4 2 = nI (min k m) ∧ (∀ j, j < min k m → a5 (120 + j) = nI (10 + j * b)) ∧ a6 2 = so ∧ a7 2 = nI m ∧
  a8 13 = nI (min k m) ∧ a8 14 = 0 ∧ a8 15 = 0 ∧ a8 16 = 0 ∧ a8 17 = nI (k - min k m)
theorem ea_lt {j k b : Nat} (hj : j < k) (hb : 1 ≤ b) : 10 + j * b < 10 + k * b := by
  have t : (j + 1) * b ≤ k * b := Nat.mul_le_mul_right b hj
  rw [Nat.succ_mul] at t
  omega
section
variable {so : Int32} {m b c : Nat}
theorem ea_bL {post : Int32 → St2 → Prop} (hm : m ≤ 60) (hb : 1 ≤ b) (hb2 : b ≤ 64) (hc : c ≤ 40)
    (H : ∀ mk a1 a2 a3 a4 a5 a6 a7 a8, ea_I m so b c a1 a2 a4 a5 a6 a7 a8 → post (nI (min c m)) (64, mk, a1, a2, a3, a4, a5, a6, a7, a8)) :
    ∀ n k, k + n = c → ∀ mk a1 a2 a3 a4 a5 a6 a7 a8, ea_I m so b k a1 a2 a4 a5 a6 a7 a8 → wX_burst_56 post 2 10 (nI b) (nI c) (n + 1) (nI (min k m)) (nI k) 64 mk a1 a2 a3 a4 a5 a6 a7 a8 := by
  intro n
  induction n with
  | zero =>
    intro k hk mk a1 a2 a3 a4 a5 a6 a7 a8 hI
    have e : k = c := hk
    rw [e] at hI
    rw [e]
    exact pk_le c c (fun _ => H mk a1 a2 a3 a4 a5 a6 a7 a8 hI) (fun z => absurd z (by omega))
  | succ n ih =>
    intro k hk mk a1 a2 a3 a4 a5 a6 a7 a8 hI
    refine pk_le c k (fun z => absurd z (by omega)) (fun _ => ?_)
    have hkb : k * b ≤ 3840 := ea_bd (by omega) hb2
    have ev : ((10 : Int32) + nI k * nI b) &&& 255 = nI ((10 + k * b) % 256) := by
      rw [show (10 : Int32) = nI 10 by decide, pk_mul, nI_add]
      exact pk_andN (by omega) 8 (by decide)
    rw [ev]
    obtain ⟨i1, i2, i4, i5, i6, i7, i13, i14, i15, i16, i17⟩ := hI
    by_cases hkm : k < m
    · have mk0 : min k m = k := by omega
      have mk1 : min (k + 1) m = k + 1 := by omega
      rw [mk0] at i1 i2 i4 i5 i13 i17
      rw [mk0]
      obtain ⟨d, d1, d2, d3⟩ := ea_d k hb hb2
      have hs : 256 * (ea_T b k / 256) + ea_T b k % 256 + d = 10 + k * b := by omega
      have t := ih (k + 1) (by omega)
      rw [mk1] at t
      refine ea_jgood (by omega) (by omega) d1 d2 (by omega) hkm hm i1 i2 i4 i7 (fun j hj => ?_) (fun b3 => br_t rfl (nm_r (nI_1 k) (nm_r (nI_1 k) (t _ _ _ _ _ _ _ _ _ ?_))))
      · rw [hs, i5 j hj]
        exact nI_ge (ea_lt hj hb) (by omega)
      · rw [hs]
        unfold ea_I
        rw [mk1, ea_Ts]
        refine ⟨pk_us, pk_us, pk_us, fun j hj => ?_, i6, i7, ?_, ?_, ?_, ?_, ?_⟩
        · by_cases e : j = k
          · rw [e, pk_us]
          · rw [pk_un (by omega)]
            exact i5 j (by omega)
        · rw [pk_us, i13, nI_1]
        · rw [pk_un (by omega), i14]
        · rw [pk_un (by omega), i15]
        · rw [pk_un (by omega), i16]
        · rw [pk_un (by omega), i17, Nat.sub_self, Nat.sub_self]
    · have mk0 : min k m = m := by omega
      have mk1 : min (k + 1) m = m := by omega
      rw [mk0] at i1 i2 i4 i5 i13 i17
      rw [mk0]
      have t := ih (k + 1) (by omega)
      rw [mk1] at t
      refine ea_jdead (Nat.le_refl m) (by omega) i4 i7 (br_f (by decide) (nm_r (nI_1 k) (t _ _ _ _ _ _ _ _ _ ?_)))
      unfold ea_I
      rw [mk1]
      refine ⟨i1, i2, i4, i5, i6, i7, ?_, ?_, ?_, ?_, ?_⟩
      · rw [pk_un (by omega), i13]
      · rw [pk_un (by omega), i14]
      · rw [pk_un (by omega), i15]
      · rw [pk_un (by omega), i16]
      · rw [pk_us, i17, nI_1, show k - m + 1 = k + 1 - m by omega]
theorem ea_n64 (h : b ≤ 64) : ¬ nI b < (-64) := by
  rw [Int32.lt_iff_toInt_lt, nI_toInt (by omega), show (-64 : Int32).toInt = -64 by decide]
  omega
variable {mk : Int64} {a1 a2 : Nat → Int32} {a3 : Nat → Int64} {a4 a5 a6 a7 a8 : Nat → Int32}
theorem ea_burstT {post : Int32 → St2 → Prop} (hm : m ≤ 60) (hb : 1 ≤ b) (hb2 : b ≤ 64) (hc0 : 1 ≤ c) (hc : c ≤ 40) (hI : ea_I m so b 0 a1 a2 a4 a5 a6 a7 a8)
    (H : ∀ mk a1 a2 a3 a4 a5 a6 a7 a8, ea_I m so b c a1 a2 a4 a5 a6 a7 a8 → post (nI (min c m)) (64, mk, a1, a2, a3, a4, a5, a6, a7, a8)) :
    wpX_burst post (64, mk, a1, a2, a3, a4, a5, a6, a7, a8) 2 10 (nI b) (nI c) := by
  unfold wpX_burst
  dsimp only
  refine ea_line (br_f (by decide) (ea_low (br_f (by decide) (br_f (ea_n64 hb2) (br_t (nI_le (b := 64) hb2 (by omega)) (br_f (nI_nlt (b := 1) hc0 (by omega)) (br_t (nI_le (b := 40) hc (by omega)) ⟨c + 1, ?_⟩)))))))
  have t := ea_bL hm hb hb2 hc H c 0 (by omega) mk a1 a2 a3 a4 a5 a6 a7 a8 hI
  rw [Nat.zero_min] at t
  exact t
theorem ea_burstF {post : Int32 → St2 → Prop} {x : Int32} (hb2 : b ≤ 64) (hx : x < 1 ∨ 40 < x) (H : post (-4) (64, mk, a1, a2, a3, a4, a5, a6, a7, a8)) :
    wpX_burst post (64, mk, a1, a2, a3, a4, a5, a6, a7, a8) 2 10 (nI b) x := by
  unfold wpX_burst
  dsimp only
  refine ea_line (br_f (by decide) (ea_low (br_f (by decide) (br_f (ea_n64 hb2) (br_t (nI_le (b := 64) hb2 (by omega)) (br_c (fun _ => H) (fun z => br_f ?_ H)))))))
  rcases hx with y | y
  · exact absurd y z
  · exact Int32.not_le.mpr y
end
end
section
theorem ea_rng {x y : Int32} {n : Nat} (hy : y = nI n) (h1 : ¬ x < 1) (h2 : ¬ y < x) (hn : n < 2 ^ 31) : ∃ v, 1 ≤ v ∧ v ≤ n ∧ x = nI v := by
  rw [hy] at h2
  rw [Int32.lt_iff_toInt_lt, show (1 : Int32).toInt = 1 by decide] at h1
  rw [Int32.lt_iff_toInt_lt, nI_toInt hn] at h2
  have h0 : ¬ x < 0 := by
    rw [Int32.lt_iff_toInt_lt, show (0 : Int32).toInt = 0 by decide]
    omega
  obtain ⟨j, hj, e⟩ := nI_of h0
  rw [e, nI_toInt hj] at h1 h2
  exact ⟨j, by omega, by omega, e⟩
section
variable {w : Int32} {mk : Int64} {a1 a2 : Nat → Int32} {a3 : Nat → Int64} {a4 a5 a6 a7 a8 : Nat → Int32}
theorem ea_dead {post : Int32 → Prop} (h0 : a4 2 < a7 2 → post 0) (h1 : ¬ a4 2 < a7 2 → post 1) : wpX_dead post (w, mk, a1, a2, a3, a4, a5, a6, a7, a8) 2 := by
  unfold wpX_dead
  dsimp only
  rw [ea_c2]
  exact ea_line (br_f (by decide) ⟨ea_i2, ea_i2, br_c h0 h1⟩)
theorem ea_aging {post : Int32 → Prop} (h0 : a4 2 < a6 2 → post 0) (h1 : ¬ a4 2 < a6 2 → post 1) : wpX_aging post (w, mk, a1, a2, a3, a4, a5, a6, a7, a8) 2 := by
  unfold wpX_aging
  dsimp only
  rw [ea_c2]
  exact ea_line (br_f (by decide) ⟨ea_i2, ea_i2, br_c h0 h1⟩)
theorem ea_accd {post : Int32 → Prop} (h : post (a4 2)) : wpX_accepted post (w, mk, a1, a2, a3, a4, a5, a6, a7, a8) 2 := by
  unfold wpX_accepted
  dsimp only
  rw [ea_c2]
  exact ea_line (br_f (by decide) ⟨ea_i2, h⟩)
theorem ea_top {post : Int32 → Prop} {h l : Nat} (e1 : a1 2 = nI h) (e2 : a2 2 = nI l) (H : post (nI (256 * h + l))) : wpX_top post (w, mk, a1, a2, a3, a4, a5, a6, a7, a8) 2 := by
  unfold wpX_top
  dsimp only
  exact ea_line (br_f (by decide) (ea_topOf e1 e2 H))
theorem ea_rekey {post : Int32 → St2 → Prop} (H : post (a4 2) (w, mk, upd a1 2 0, upd a2 2 0, vp_updL a3 2 0, upd a4 2 0, a5, a6, a7, a8)) : wpX_rekey post (w, mk, a1, a2, a3, a4, a5, a6, a7, a8) 2 := by
  unfold wpX_rekey
  dsimp only
  rw [ea_c2]
  exact ea_line (br_f (by decide) ⟨ea_i2, nm_e ⟨ea_i2, nm_e ⟨ea_i2, nm_e ⟨ea_i2, nm_e ⟨ea_i2, nm_e H⟩⟩⟩⟩⟩)
theorem ea_count {post : Int32 → Prop} {x : Int32} (h1 : x < 1 → post (-2)) (h2 : ¬ x < 1 → 5 < x → post (-2)) (h3 : ∀ v, 1 ≤ v → v ≤ 5 → x = nI v → post (a8 (12 + v))) : wpX_count post (w, mk, a1, a2, a3, a4, a5, a6, a7, a8) 2 x := by
  unfold wpX_count
  dsimp only
  refine ea_line (br_f (by decide) (br_c h1 (fun z1 => br_c (h2 z1) (fun z2 => ?_))))
  obtain ⟨v, v1, v5, e⟩ := ea_rng (n := 5) rfl z1 z2 (by omega)
  have t := h3 v v1 v5 e
  rw [e, ea_12, nI_clamp (by omega)]
  exact ⟨pk_in (12 + v) 24 (by omega), t⟩
theorem ea_limH {post : Int32 → St2 → Prop} {x y : Int32} (hy : y < 1 ∨ 60 < y) (H : post (-2) (w, mk, a1, a2, a3, a4, a5, a6, a7, a8)) : wpX_limits post (w, mk, a1, a2, a3, a4, a5, a6, a7, a8) 2 x y := by
  unfold wpX_limits
  dsimp only
  refine ea_line (br_f (by decide) (br_c (fun _ => H) (fun z => br_f ?_ H)))
  rcases hy with t | t
  · exact absurd t z
  · exact Int32.not_le.mpr t
theorem ea_limS {post : Int32 → St2 → Prop} {x y : Int32} (h1 : ¬ y < 1) (h2 : y ≤ 60) (hx : x < 0 ∨ y < x) (H : post (-3) (w, mk, a1, a2, a3, a4, a5, a6, a7, a8)) : wpX_limits post (w, mk, a1, a2, a3, a4, a5, a6, a7, a8) 2 x y := by
  unfold wpX_limits
  dsimp only
  refine ea_line (br_f (by decide) (br_f h1 (br_t h2 (br_c (fun _ => H) (fun z => br_f ?_ H)))))
  rcases hx with t | t
  · exact absurd t z
  · exact Int32.not_le.mpr t
theorem ea_limG {post : Int32 → St2 → Prop} {x y : Int32} (h1 : ¬ y < 1) (h2 : y ≤ 60) (h3 : ¬ x < 0) (h4 : x ≤ y) (hp : a4 2 < y) (H : post 0 (w, mk, a1, a2, a3, a4, a5, upd a6 2 x, upd a7 2 y, a8)) : wpX_limits post (w, mk, a1, a2, a3, a4, a5, a6, a7, a8) 2 x y := by
  unfold wpX_limits
  dsimp only
  rw [ea_c2]
  exact ea_line (br_f (by decide) (br_f h1 (br_t h2 (br_f h3 (br_t h4 ⟨ea_i2, nm_e ⟨ea_i2, nm_e ⟨ea_i2, br_t hp H⟩⟩⟩)))))
theorem ea_init {post : St2 → Prop} (H : ∀ a6 a7 : Nat → Int32, a6 2 = 40 → a7 2 = 60 → post (64, -1, (fun _ => 0), (fun _ => 0), (fun _ => 0), (fun _ => 0), (fun _ => 0), a6, a7, (fun _ => 0))) : wpX_init post 8 288 (0, 0) 64 := by
  unfold wpX_init
  dsimp only
  refine ⟨by omega, by omega, by omega, by omega, by omega, by omega, by omega, by omega, by omega, by omega, by omega, by omega, by omega, by omega, by omega, by omega, br_t (by decide) ?_⟩
  unfold wX_init_74
  refine br_t (by decide) ?_
  unfold wX_init_92
  refine br_t rfl ?_
  refine pk_loop (σ := (Nat → Int32) × (Nat → Int32)) (fun n i s => wX_init_121 post 8 288 8 288 64 (-1) n (nI i) (fun _ => 0) (fun _ => 0) (fun _ => 0) (fun _ => 0) (fun _ => 0) s.1 s.2 (fun _ => 0)) (fun i s => ∀ j, j < i → s.1 j = 40 ∧ s.2 j = 60) 4 0 (fun _ => 0, fun _ => 0) (by omega) (fun j hj => absurd hj (by omega))
    (fun n s h => pk_le 4 4 (fun _ => H s.1 s.2 (h 2 (by omega)).1 (h 2 (by omega)).2) (fun z => absurd z (by omega)))
    (fun n i s hi h hw => pk_le 4 i (fun z => absurd z (by omega)) (fun _ => ⟨pk_in i 4 hi, nm_e ⟨pk_in i 4 hi, nm_e (nm_r (nI_1 i) (hw (_, _) (fun j hj => ?_)))⟩⟩))
  show upd s.1 (nI i).toNatClampNeg 40 j = 40 ∧ upd s.2 (nI i).toNatClampNeg 60 j = 60
  rw [nI_clamp (by omega)]
  by_cases e : j = i
  · rw [e, pk_us, pk_us]
    exact ⟨rfl, rfl⟩
  · rw [pk_un e, pk_un e]
    exact h j (by omega)
variable {post : Int32 → St0 → Prop} {mc ms kc ks : Nat} {so : Int32} {m b k : Nat}
theorem ea_320 {x12 z0 z1 : Int32} (H : post 1 ()) (hz : z1 = z0) (e4 : a4 2 = x12) (e7 : 0 < a7 2) : wL_lawOf_320 post mc ms x12 z0 z1 kc ks w mk a1 a2 a3 a4 a5 a6 a7 a8 := by
  unfold wL_lawOf_320
  have e : upd a4 2 0 2 < a7 2 := by
    rw [pk_us]
    exact e7
  exact br_t hz (ea_rekey (br_t e4 (ea_dead (fun _ => br_t rfl (ea_accd (br_t pk_us H))) (fun z => absurd e z))))
theorem ea_299 {x9 x12 z0 z1 : Int32} (H : post 1 ()) (hz : z1 = z0) (e4 : a4 2 = x12) (e6 : a6 2 = x9) (e7 : 0 < a7 2) : wL_lawOf_299 post mc ms x9 x12 z0 z1 kc ks w mk a1 a2 a3 a4 a5 a6 a7 a8 := by
  unfold wL_lawOf_299
  refine br_t hz (ea_aging (fun h => ?_) (fun h => ?_))
  · rw [e4, e6] at h
    exact br_t h (ea_320 H rfl e4 e7)
  · rw [e4, e6] at h
    exact br_f h (ea_320 H rfl e4 e7)
theorem ea_276 {x8 x9 x12 z0 z1 : Int32} (H : post 1 ()) (hz : z1 = z0) (e4 : a4 2 = x12) (e6 : a6 2 = x9) (e7 : a7 2 = x8) (h8 : 0 < x8) : wL_lawOf_276 post mc ms x8 x9 x12 z0 z1 kc ks w mk a1 a2 a3 a4 a5 a6 a7 a8 := by
  unfold wL_lawOf_276
  have e : 0 < a7 2 := by
    rw [e7]
    exact h8
  refine br_t hz (ea_dead (fun h => ?_) (fun h => ?_))
  · rw [e4, e7] at h
    exact br_t h (ea_299 H rfl e4 e6 e)
  · rw [e4, e7] at h
    exact br_f h (ea_299 H rfl e4 e6 e)
theorem ea_246 {z0 z1 : Int32} (H : post 1 ()) (hm1 : 1 ≤ m) (hm : m ≤ 60) (hz : z1 = z0) (hI : ea_I m so b k a1 a2 a4 a5 a6 a7 a8) : wL_lawOf_246 post mc ms (nI m) so (nI b) (nI (min k m)) z0 z1 kc ks w mk a1 a2 a3 a4 a5 a6 a7 a8 := by
  obtain ⟨i1, i2, i4, i5, i6, i7, _⟩ := hI
  have h8 : (0 : Int32) < nI m := nI_lt (a := 0) hm1 (by omega)
  unfold wL_lawOf_246
  refine br_t hz (ea_top i1 i2 (pk_le (min k m) 0 (fun z => ea_276 H ?_ i4 i6 i7 h8) (fun z => ea_276 H ?_ i4 i6 i7 h8)))
  · rw [show min k m = 0 by omega, ea_T0]
    rfl
  · rw [show 256 * (ea_T b (min k m) / 256) + ea_T b (min k m) % 256 = ea_T b (min k m) by omega]
    obtain ⟨q, e⟩ : ∃ q, min k m = q + 1 := ⟨min k m - 1, by omega⟩
    rw [e, ea_Ts, nI_pred, pk_mul, show (10 : Int32) = nI 10 by decide, nI_add]
theorem ea_217 {x4 z0 : Int32} (H : post 1 ()) (hm1 : 1 ≤ m) (hm : m ≤ 60) (hI : ea_I m so b k a1 a2 a4 a5 a6 a7 a8) (hd : ∀ v, 1 ≤ v → v ≤ 5 → x4 = nI v → a8 (12 + v) = z0) : wL_lawOf_217 post mc ms x4 (nI m) so (nI b) (nI (min k m)) z0 kc ks w mk a1 a2 a3 a4 a5 a6 a7 a8 := by
  unfold wL_lawOf_217
  refine ea_count (fun h => br_t h ?_) (fun z h => br_f z (br_f (Int32.not_le.mpr h) ?_)) (fun v v1 v5 e => ?_)
  · unfold wL_lawOf_239
    exact ea_246 H hm1 hm rfl hI
  · unfold wL_lawOf_239
    exact ea_246 H hm1 hm rfl hI
  · refine br_f ?_ (br_t ?_ (ea_246 H hm1 hm (hd v v1 v5 e) hI))
    · rw [e]
      exact nI_nlt (b := 1) v1 (by omega)
    · rw [e]
      exact nI_le (b := 5) v5 (by omega)
theorem ea_182 {x2 x4 x11 z0 z1 : Int32} (H : post 1 ()) (hm1 : 1 ≤ m) (hm : m ≤ 60) (hk : k ≤ 40) (hz : z1 = z0) (hI : ea_I m so b k a1 a2 a4 a5 a6 a7 a8) (h0 : x11 = 0 → k = 0) (h1 : ¬ x11 = 0 → x2 = nI k) :
    wL_lawOf_182 post mc ms x2 x4 (nI m) so (nI b) x11 (nI (min k m)) z0 z1 kc ks w mk a1 a2 a3 a4 a5 a6 a7 a8 := by
  have hI' := hI
  obtain ⟨_, _, _, _, _, _, i13, i14, i15, i16, i17⟩ := hI'
  unfold wL_lawOf_182
  refine br_t hz (br_c (fun c1 => ea_217 H hm1 hm hI (fun v v1 v5 e => ?_)) (fun c1 => br_c (fun c5 => br_c (fun g => ?_) (fun g => ea_217 H hm1 hm hI (fun v v1 v5 e => ?_))) (fun c5 => ?_)))
  · have e' : v = 1 := (nI_eq (by omega) (by omega)).mp (e.symm.trans c1)
    rw [e']
    exact i13
  · unfold wL_lawOf_216
    refine ea_217 H hm1 hm hI (fun v v1 v5 e => ?_)
    have e' : v = 5 := (nI_eq (by omega) (by omega)).mp (e.symm.trans c5)
    rw [e', i17, h0 g, Nat.zero_sub]
    rfl
  · have e' : v = 5 := (nI_eq (by omega) (by omega)).mp (e.symm.trans c5)
    rw [e', i17, h1 g]
    exact (pk_sub (by omega)).symm
  · unfold wL_lawOf_216
    refine ea_217 H hm1 hm hI (fun v v1 v5 e => ?_)
    have n1 : v ≠ 1 := fun t => c1 (by rw [e, t]; rfl)
    have n5 : v ≠ 5 := fun t => c5 (by rw [e, t]; rfl)
    have t : v = 2 ∨ v = 3 ∨ v = 4 := by omega
    rcases t with t | t | t
    · rw [t]
      exact i14
    · rw [t]
      exact i15
    · rw [t]
      exact i16
theorem ea_157T {c : Nat} {x4 z0 : Int32} (H : post 1 ()) (hm1 : 1 ≤ m) (hm : m ≤ 60) (hb : 1 ≤ b) (hb2 : b ≤ 64) (hc0 : 1 ≤ c) (hc : c ≤ 40) (hz : z0 = nI (min c m)) (hI : ea_I m so b 0 a1 a2 a4 a5 a6 a7 a8) :
    wL_lawOf_157 post mc ms (nI c) x4 (nI m) so (nI b) 1 z0 kc ks 64 mk a1 a2 a3 a4 a5 a6 a7 a8 := by
  rw [hz]
  unfold wL_lawOf_157
  exact ea_burstT hm hb hb2 hc0 hc hI (fun mk a1 a2 a3 a4 a5 a6 a7 a8 hJ => br_f (by decide) (ea_182 H hm1 hm hc rfl hJ (fun z => absurd z (by decide)) (fun _ => rfl)))
theorem ea_157F {x2 x4 : Int32} (H : post 1 ()) (hm1 : 1 ≤ m) (hm : m ≤ 60) (hb2 : b ≤ 64) (hx : x2 < 1 ∨ 40 < x2) (hI : ea_I m so b 0 a1 a2 a4 a5 a6 a7 a8) :
    wL_lawOf_157 post mc ms x2 x4 (nI m) so (nI b) 0 0 kc ks 64 mk a1 a2 a3 a4 a5 a6 a7 a8 := by
  have t : ∀ z0 z1 : Int32, z1 = z0 → wL_lawOf_182 post mc ms x2 x4 (nI m) so (nI b) 0 (nI (min 0 m)) z0 z1 kc ks 64 mk a1 a2 a3 a4 a5 a6 a7 a8 := fun z0 z1 e => ea_182 H hm1 hm (by omega) e hI (fun _ => rfl) (fun z => absurd rfl z)
  rw [Nat.zero_min] at t
  unfold wL_lawOf_157
  exact ea_burstF hb2 hx (br_t rfl (t _ _ rfl))
theorem ea_108 {x2 x3 x4 : Int32} (H : post 1 ()) (hm1 : 1 ≤ m) (hm : m ≤ 60) (hI : ∀ b, ea_I m so b 0 a1 a2 a4 a5 a6 a7 a8) :
    wL_lawOf_108 post mc ms x2 x3 x4 (nI m) so kc ks 64 mk a1 a2 a3 a4 a5 a6 a7 a8 := by
  obtain ⟨j, hj, ej⟩ := pk_andE x3 (m := 63) 6 (by decide)
  have hj' : j < 64 := hj
  have F : (x2 < 1 ∨ 40 < x2) → wL_lawOf_133 post mc ms x2 x4 (nI m) so (nI (1 + j)) kc ks 64 mk a1 a2 a3 a4 a5 a6 a7 a8 := by
    intro hx
    unfold wL_lawOf_133
    unfold wL_lawOf_134
    exact br_t rfl (ea_157F H hm1 hm (by omega) hx (hI _))
  unfold wL_lawOf_108
  refine nm_r (e' := nI (1 + j)) (by rw [ej]; exact nI_add 1 j) (br_c (fun z => F (Or.inl z)) (fun z1 => br_c (fun z => F (Or.inr z)) (fun z2 => ?_)))
  obtain ⟨c, c1, c2, e⟩ := ea_rng (n := 40) rfl z1 z2 (by omega)
  rw [e]
  unfold wL_lawOf_134
  exact br_f (by decide) (pk_le m c (fun z => ea_157T H hm1 hm (by omega) (by omega) c1 c2 (by rw [Nat.min_eq_right z]) (hI _)) (fun z => ea_157T H hm1 hm (by omega) (by omega) c1 c2 (by rw [Nat.min_eq_left (Nat.le_of_lt z)]) (hI _)))
end
theorem ea_i0 {so : Int32} {m : Nat} (b : Nat) {a6 a7 : Nat → Int32} (h6 : a6 2 = so) (h7 : a7 2 = nI m) : ea_I m so b 0 (fun _ => 0) (fun _ => 0) (fun _ => 0) (fun _ => 0) a6 a7 (fun _ => 0) := by
  unfold ea_I
  rw [Nat.zero_min, ea_T0]
  exact ⟨rfl, rfl, rfl, fun j hj => absurd hj (by omega), h6, h7, rfl, rfl, rfl, rfl, rfl⟩
theorem ea_lawOf {post : Int32 → St0 → Prop} {p0 p1 p2 p3 p4 : Int32} (H : post 1 ()) : wpL_lawOf post 9 298 () p0 p1 p2 p3 p4 := by
  unfold wpL_lawOf
  refine ⟨by omega, by omega, 8, 288, by omega, by omega, ea_init (fun a6 a7 h6 h7 => ?_)⟩
  have A : (p1 < 1 ∨ 60 < p1) → wL_lawOf_26 post 9 298 p0 p1 p2 p3 p4 (1 + 8) (10 + 288) 64 (-1) (fun _ => 0) (fun _ => 0) (fun _ => 0) (fun _ => 0) (fun _ => 0) a6 a7 (fun _ => 0) := by
    intro hx
    unfold wL_lawOf_26 wL_lawOf_27
    refine br_t rfl ?_
    unfold wL_lawOf_47 wL_lawOf_48
    refine ea_limH hx (br_t rfl ?_)
    unfold wL_lawOf_79
    refine br_t rfl (br_t rfl ?_)
    unfold wL_lawOf_95
    exact br_t rfl (ea_108 (m := 60) H (by omega) (by omega) (fun b => ea_i0 b h6 h7))
  refine br_c (fun z => A (Or.inl z)) (fun z1 => br_c (fun z => A (Or.inr z)) (fun z2 => ?_))
  obtain ⟨m, m1, m2, e⟩ := ea_rng (n := 60) rfl z1 z2 (by omega)
  have hle : p1 ≤ 60 := Int32.not_lt.mp z2
  have B : (p0 < 0 ∨ p1 < p0) → wL_lawOf_47 post 9 298 p0 p1 p2 p3 p4 1 (1 + 8) (10 + 288) 64 (-1) (fun _ => 0) (fun _ => 0) (fun _ => 0) (fun _ => 0) (fun _ => 0) a6 a7 (fun _ => 0) := by
    intro hx
    unfold wL_lawOf_47 wL_lawOf_48
    refine ea_limS z1 hle hx (br_f (by decide) (br_t rfl ?_))
    unfold wL_lawOf_79
    refine br_t rfl (br_t rfl ?_)
    unfold wL_lawOf_95
    exact br_t rfl (ea_108 (m := 60) H (by omega) (by omega) (fun b => ea_i0 b h6 h7))
  unfold wL_lawOf_27
  refine br_f (by decide) (br_c (fun z => B (Or.inl z)) (fun y1 => br_c (fun z => B (Or.inr z)) (fun y2 => ?_)))
  have hp : (0 : Int32) < p1 := by
    rw [e]
    exact nI_lt (a := 0) m1 (by omega)
  unfold wL_lawOf_48
  refine ea_limG z1 hle y1 (Int32.not_lt.mp y2) hp (br_f (by decide) (br_f (by decide) ?_))
  unfold wL_lawOf_79
  refine br_t rfl (br_f (by decide) ?_)
  unfold wL_lawOf_95
  refine br_f (by decide) ?_
  rw [e]
  exact ea_108 H m1 m2 (fun b => ea_i0 b pk_us pk_us)
theorem ea_cell {post : Int32 → Prop} {xs : Nat → Int32} {L : Nat} (hL : L ≤ 5) (i : Nat) (hi : i < 5) {x : Int32} (hx : x = nI i) (H : ∀ r, post r) : wpL_cellAt post L xs () x :=
  pk_le L i (fun _ => H _) (fun z => ⟨pk_in i L z hx, H _⟩) rfl hx
end
section
theorem i_vc (xs : Nat → Int32) (L : Nat) (hL : L ≤ 5) : wpL_law (fun r => r = 1) L xs := by
  unfold wpL_law
  exact ea_cell hL 0 (by omega) rfl (fun _ => ea_cell hL 1 (by omega) rfl (fun _ => ea_cell hL 2 (by omega) rfl (fun _ => ea_cell hL 3 (by omega) rfl (fun _ => ea_cell hL 4 (by omega) rfl (fun _ => ⟨9, 298, by omega, by omega, ea_lawOf rfl⟩)))))
end
