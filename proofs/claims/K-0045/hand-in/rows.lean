section
/-! two rows of the kit's rows to paste -/
theorem pk_sub {a b : Nat} (h : b ≤ a) : nI a - nI b = nI (a - b) := by
  obtain ⟨c, rfl⟩ : ∃ c, a = c + b := ⟨a - b, by omega⟩
  rw [← nI_add, Int32.add_sub_cancel, Nat.add_sub_cancel]
theorem pk_m1 (n : Nat) : nI (n + 1) + (-1) = nI n := by
  rw [← nI_1, Int32.add_assoc, show (1 : Int32) + (-1) = 0 from rfl, Int32.add_zero]
/-! sums of counts -/
/-- the sum of the first n counts -/
def al_S (c : Nat → Nat) : Nat → Nat
  | 0 => 0
  | n + 1 => al_S c n + c n
/-- the sum of the counts from h up to 255 -/
def al_U (c : Nat → Nat) (h : Nat) : Nat := al_S c 256 - al_S c h
/-- one more at g -/
def al_up (c : Nat → Nat) (g : Nat) : Nat → Nat := fun j => if j = g then c g + 1 else c j
theorem al_Ss (c : Nat → Nat) (n : Nat) : al_S c (n + 1) = al_S c n + c n := rfl
theorem al_add (c : Nat → Nat) (n : Nat) : ∀ d, al_S c n ≤ al_S c (n + d) := by
  intro d
  induction d with
  | zero => exact Nat.le_refl _
  | succ d ih => exact Nat.le_trans ih (Nat.le_add_right _ _)
theorem al_mono (c : Nat → Nat) {a b : Nat} (h : a ≤ b) : al_S c a ≤ al_S c b := by
  have := al_add c a (b - a)
  rwa [show a + (b - a) = b from by omega] at this
theorem al_Us (c : Nat → Nat) {h : Nat} (hh : h < 256) : al_U c (h + 1) + c h = al_U c h := by
  have h1 := al_Ss c h
  have h2 := al_mono c (a := h + 1) (b := 256) (by omega)
  unfold al_U
  omega
theorem al_U256 (c : Nat → Nat) : al_U c 256 = 0 := Nat.sub_self _
theorem al_U0 (c : Nat → Nat) : al_U c 0 = al_S c 256 := Nat.sub_zero _
theorem al_Ule (c : Nat → Nat) (h : Nat) : al_U c h ≤ al_S c 256 := Nat.sub_le _ _
theorem al_S_0 : ∀ n, al_S (fun _ => 0) n = 0 := by
  intro n
  induction n with
  | zero => rfl
  | succ n ih => rw [al_Ss, ih]
theorem al_S_up (c : Nat → Nat) (g : Nat) : ∀ n, al_S (al_up c g) n = al_S c n + (if g < n then 1 else 0) := by
  intro n
  induction n with
  | zero => rfl
  | succ n ih =>
    rw [al_Ss, al_Ss, ih]
    by_cases e : n = g
    · subst e
      rw [if_neg (Nat.lt_irrefl n), if_pos (Nat.lt_succ_self n)]
      have : al_up c n n = c n + 1 := if_pos rfl
      omega
    · have h : al_up c g n = c n := if_neg e
      by_cases l : g < n
      · rw [if_pos l, if_pos (by omega)]; omega
      · rw [if_neg l, if_neg (by omega)]; omega
theorem al_least (p : Nat → Prop) : ∀ n, p n → ∃ m, m ≤ n ∧ p m ∧ ∀ j, j < m → ¬ p j := by
  intro n
  induction n using Nat.strongRecOn with
  | ind n ih =>
    intro hp
    by_cases h : ∃ j, j < n ∧ p j
    · obtain ⟨j, hj, hpj⟩ := h
      obtain ⟨m, hm, hpm, hl⟩ := ih j hj hpj
      exact ⟨m, Nat.le_trans hm (Nat.le_of_lt hj), hpm, hl⟩
    · exact ⟨n, Nat.le_refl n, hp, fun j hj hpj => h ⟨j, hj, hpj⟩⟩
/-- the black point: the first gray whose sum from below passes t -/
theorem al_low (c : Nat → Nat) (t : Nat) (h : t < al_S c 256 * 1000) : ∃ G, G < 256 ∧ t < al_S c (G + 1) * 1000 ∧ ∀ j, j < G → al_S c (j + 1) * 1000 ≤ t := by
  obtain ⟨m, hm, hp, hl⟩ := al_least (fun g => t < al_S c (g + 1) * 1000) 255 h
  exact ⟨m, by omega, hp, fun j hj => Nat.le_of_not_lt (hl j hj)⟩
/-- the white point: the last gray whose sum from above passes t -/
theorem al_high (c : Nat → Nat) (t : Nat) (h : t < al_S c 256 * 1000) : ∃ H, H < 256 ∧ t < al_U c H * 1000 ∧ ∀ j, H < j → j < 256 → al_U c j * 1000 ≤ t := by
  obtain ⟨m, hm, hp, hl⟩ := al_least (fun g => t < al_U c (255 - g) * 1000) 255 (by
    show t < al_U c 0 * 1000
    rw [al_U0]; exact h)
  refine ⟨255 - m, by omega, hp, fun j hj h6 => ?_⟩
  have := hl (255 - j) (by omega)
  have e : 255 - (255 - j) = j := by omega
  exact Nat.le_of_not_lt fun z => this (show t < al_U c (255 - (255 - j)) * 1000 by rw [e]; exact z)
/-! the same in ints and longs -/
theorem al_m {s : Nat} : lN s * 1000 = lN (s * 1000) := lN_mul s 1000
theorem al_le {s t : Nat} (hs : s ≤ 1024) (ht : t < 2 ^ 31) (h : s * 1000 ≤ t) : lN s * 1000 ≤ lN t := by
  rw [al_m]; exact (lN_le (by omega) ht).mpr h
theorem al_nle {s t : Nat} (hs : s ≤ 1024) (ht : t < 2 ^ 31) (h : t < s * 1000) : ¬ lN s * 1000 ≤ lN t := by
  rw [al_m, lN_le (by omega) ht]; omega
theorem al_lt {s t : Nat} (hs : s ≤ 1024) (ht : t < 2 ^ 31) (h : t < s * 1000) : lN t < lN s * 1000 := by
  rw [al_m]; exact (lN_lt ht (by omega)).mpr h
theorem al_nlt {s t : Nat} (hs : s ≤ 1024) (ht : t < 2 ^ 31) (h : s * 1000 ≤ t) : ¬ lN t < lN s * 1000 := by
  rw [al_m, lN_lt ht (by omega)]; omega
theorem al_rd (c : Nat → Nat) {g : Nat} (hg : g < 256) (hS : al_S c 256 ≤ 1024) : lN (al_S c g) + (nI (c (nI g).toNatClampNeg)).toInt64 = lN (al_S c (g + 1)) := by
  have h1 := al_Ss c g
  have h2 := al_mono c (a := g + 1) (b := 256) (by omega)
  rw [nI_clamp (by omega), nI_l (by omega), lN_add, h1]
theorem al_rdU (c : Nat → Nat) {h : Nat} (hh : h < 256) (hS : al_S c 256 ≤ 1024) : lN (al_U c (h + 1)) + (nI (c (nI h).toNatClampNeg)).toInt64 = lN (al_U c h) := by
  have h1 := al_Us c hh
  have h2 := al_Ule c h
  rw [nI_clamp (by omega), nI_l (by omega), lN_add, h1]
theorem al_rd0 (c : Nat → Nat) (hS : al_S c 256 ≤ 1024) : (nI (c 0)).toInt64 = lN (al_S c 1) := by
  have h1 : al_S c 1 = al_S c 0 + c 0 := al_Ss c 0
  have h2 := al_mono c (a := 1) (b := 256) (by omega)
  have h0 : al_S c 0 = 0 := rfl
  have e : al_S c 1 = c 0 := by omega
  rw [nI_l (by omega), e]
theorem al_rd255 (c : Nat → Nat) (hS : al_S c 256 ≤ 1024) : (nI (c 255)).toInt64 = lN (al_U c 255) := by
  have h1 : al_U c 256 + c 255 = al_U c 255 := al_Us c (h := 255) (by omega)
  have h2 := al_Ule c 255
  have h0 := al_U256 c
  have e : al_U c 255 = c 255 := by omega
  rw [nI_l (by omega), e]
theorem al_updE (c : Nat → Nat) (g : Nat) : upd (fun j => nI (c j)) g (nI (c g) + 1) = (fun j => nI (al_up c g j)) := by
  funext j
  by_cases e : j = g
  · subst e
    rw [show upd (fun j => nI (c j)) j (nI (c j) + 1) j = nI (c j) + 1 from if_pos rfl, show al_up c j j = c j + 1 from if_pos rfl, nI_1]
  · rw [show upd (fun j => nI (c j)) g (nI (c g) + 1) j = nI (c j) from if_neg e, show al_up c g j = c j from if_neg e]
end
section
/-! the four loops of solve -/
theorem al_x1 (post : Int32 → SX → Prop) (c : Nat → Nat) (t : Nat) (ft : Int64) (fl fh x6 : Int32) (G : Nat) (hG : G < 256) (hS : al_S c 256 ≤ 1024) (ht : t < 2 ^ 31)
    (hlo : ∀ j, j < G → al_S c (j + 1) * 1000 ≤ t) (hhi : t < al_S c (G + 1) * 1000)
    (K : ∃ n, wX_solve_143 post (lN t) (nI G) ft fl fh (fun j => nI (c j)) n x6 0 0 255) :
    ∀ d g x5, g + d = G → wX_solve_82 post (lN t) x6 ft fl fh (fun j => nI (c j)) (d + 2) x5 0 (lN (al_S c g)) (nI g) := by
  intro d
  induction d with
  | zero =>
    intro g x5 e
    have e' : g = G := e
    subst e'
    have hm := al_mono c (a := g + 1) (b := 256) (by omega)
    exact br_f (nI_ge (b := 256) hG (by decide)) (br_t rfl ⟨vp_in_nI hG (by decide), nm_r (al_rd c hG hS) (br_f (al_nle (by omega) ht hhi) (nm_e (br_c (fun _ => K) (fun _ => br_f (by decide) K))))⟩)
  | succ d ih =>
    intro g x5 e
    have hg : g < 256 := by omega
    have hm := al_mono c (a := g + 1) (b := 256) (by omega)
    exact br_f (nI_ge (b := 256) hg (by decide)) (br_t rfl ⟨vp_in_nI hg (by decide), nm_r (al_rd c hg hS) (br_t (al_le (by omega) ht (hlo g (by omega))) (nm_r (nI_1 g) (ih (g + 1) x5 (by omega))))⟩)
theorem al_y1 (post : Int32 → SY → Prop) (c : Nat → Nat) (t : Nat) (ft : Int64) (fl fh : Int32) (G : Nat) (hG : G < 256) (hS : al_S c 256 ≤ 1024) (ht : t < 2 ^ 31)
    (hlo : ∀ j, j < G → al_S c (j + 1) * 1000 ≤ t) (hhi : t < al_S c (G + 1) * 1000)
    (K : wY_solve_107 post (lN t) (nI G) ft fl fh (fun j => nI (c j))) :
    ∀ d g, g + d = G → wY_solve_69 post (lN t) ft fl fh (fun j => nI (c j)) (d + 1) (nI g) (lN (al_S c (g + 1))) := by
  intro d
  induction d with
  | zero =>
    intro g e
    have e' : g = G := e
    subst e'
    have hm := al_mono c (a := g + 1) (b := 256) (by omega)
    exact br_c (fun _ => K) (fun _ => br_t (al_lt (by omega) ht hhi) K)
  | succ d ih =>
    intro g e
    have hm := al_mono c (a := g + 1) (b := 256) (by omega)
    exact br_f (nI_ge (b := 255) (by omega) (by decide)) (br_f (al_nlt (by omega) ht (hlo g (by omega))) (nm_r (nI_1 g) ⟨vp_in_nI (by omega) (by decide), nm_r (al_rd c (g := g + 1) (by omega) hS) (ih (g + 1) (by omega))⟩))
theorem al_x2 (post : Int32 → SX → Prop) (c : Nat → Nat) (t : Nat) (ft : Int64) (fl fh x5 : Int32) (H : Nat) (hS : al_S c 256 ≤ 1024) (ht : t < 2 ^ 31)
    (hhi : ∀ j, H < j → j < 256 → al_U c j * 1000 ≤ t) (hlo : t < al_U c H * 1000)
    (K : wX_solve_190 post x5 (nI H) ft fl fh (fun j => nI (c j))) :
    ∀ d x6, H + d < 256 → wX_solve_143 post (lN t) x5 ft fl fh (fun j => nI (c j)) (d + 2) x6 0 (lN (al_U c (H + d + 1))) (nI (H + d)) := by
  intro d
  induction d with
  | zero =>
    intro x6 h
    have hH : H < 256 := h
    have hm := al_Ule c H
    exact br_f (nI_pos (n := H) (by omega)) (br_t rfl ⟨vp_in_nI hH (by decide), nm_r (al_rdU c hH hS) (br_f (al_nle (by omega) ht hlo) (nm_e (br_c (fun _ => K) (fun _ => br_f (by decide) K))))⟩)
  | succ d ih =>
    intro x6 h
    have hm := al_Ule c (H + (d + 1))
    exact br_f (nI_pos (by omega)) (br_t rfl ⟨vp_in_nI h (by decide), nm_r (al_rdU c h hS) (br_t (al_le (by omega) ht (hhi _ (by omega) h)) (nm_r (pk_m1 (H + d)) (ih x6 (by omega))))⟩)
theorem al_y2 (post : Int32 → SY → Prop) (c : Nat → Nat) (t : Nat) (ft : Int64) (fl fh x5 : Int32) (H : Nat) (hS : al_S c 256 ≤ 1024) (ht : t < 2 ^ 31)
    (hhi : ∀ j, H < j → j < 256 → al_U c j * 1000 ≤ t) (hlo : t < al_U c H * 1000)
    (K : wY_solve_158 post x5 (nI H) ft fl fh (fun j => nI (c j))) :
    ∀ d, H + d < 256 → wY_solve_123 post (lN t) x5 ft fl fh (fun j => nI (c j)) (d + 1) (lN (al_U c (H + d))) (nI (H + d)) := by
  intro d
  induction d with
  | zero =>
    intro h
    have hm := al_Ule c H
    exact br_c (fun _ => K) (fun _ => br_t (al_lt (s := al_U c H) (by omega) ht hlo) K)
  | succ d ih =>
    intro h
    have hm := al_Ule c (H + (d + 1))
    exact br_f (nI_nle (by omega) (by omega)) (br_f (al_nlt (by omega) ht (hhi _ (by omega) h)) (nm_r (pk_m1 (H + d)) ⟨vp_in_nI (by omega) (by decide), nm_r (al_rdU c (h := H + d) (by omega) hS) (ih (by omega))⟩))
/-- solve behind the clamp: one outcome for both sides -/
theorem al_solve (c : Nat → Nat) (lo hi pm : Nat) (hS : al_S c 256 ≤ 1024) (hp : pm ≤ 499) : ∃ G H : Nat, G < 256 ∧ H < 256 ∧
    (∀ post : Int32 → SX → Prop, post (nI G ||| (nI H <<< ((8 : Int32) &&& 31))) (lN (al_S c 256), nI G, nI H, fun j => nI (c j)) → wX_solve_19 post (nI pm) (lN (al_S c 256)) (nI lo) (nI hi) (fun j => nI (c j))) ∧
    (∀ post : Int32 → SY → Prop, post (nI G ||| (nI H <<< ((8 : Int32) &&& 31))) (lN (al_S c 256), nI G, nI H, fun j => nI (c j)) → wY_solve_22 post (nI pm) (lN (al_S c 256)) (nI lo) (nI hi) (fun j => nI (c j))) := by
  by_cases z : al_S c 256 = 0
  · have e0 : lN (al_S c 256) = 0 := by rw [z]; rfl
    exact ⟨0, 255, by decide, by decide, fun post h => br_t e0 h, fun post h => br_t e0 h⟩
  · have n0 : ¬ lN (al_S c 256) = 0 := fun e => z ((lN_eq (b := 0) (by omega) (by decide)).mp e)
    have hle : al_S c 256 * pm ≤ al_S c 256 * 499 := Nat.mul_le_mul_left _ hp
    have ht : al_S c 256 * pm < 2 ^ 31 := by omega
    have hlt : al_S c 256 * pm < al_S c 256 * 1000 := by omega
    have et : lN (al_S c 256) * (nI pm).toInt64 = lN (al_S c 256 * pm) := by rw [nI_l (by omega), lN_mul]
    obtain ⟨G, hG, g1, g2⟩ := al_low c _ hlt
    obtain ⟨H, hH, h1, h2⟩ := al_high c _ hlt
    have eH : H + (255 - H) = 255 := by omega
    refine ⟨G, H, hG, hH, fun post h => br_f n0 (nm_r et ⟨G + 2, ?_⟩), fun post h => br_f n0 (nm_r et (nm_r (al_rd0 c hS) ⟨G + 1, ?_⟩))⟩
    · refine al_x1 post c _ _ _ _ _ G hG hS ht g2 g1 ⟨255 - H + 2, ?_⟩ G 0 _ (by omega)
      have k := al_x2 post c (al_S c 256 * pm) (lN (al_S c 256)) (nI lo) (nI hi) (nI G) H hS ht h2 h1 h (255 - H) (nI hi) (by omega)
      rw [eH, al_U256] at k
      exact k
    · refine al_y1 post c _ _ _ _ G hG hS ht g2 g1 (nm_r (al_rd255 c hS) ⟨255 - H + 1, ?_⟩) G 0 (by omega)
      have k := al_y2 post c (al_S c 256 * pm) (lN (al_S c 256)) (nI lo) (nI hi) (nI G) H hS ht h2 h1 h (255 - H) (by omega)
      rw [eH] at k
      exact k
end
section
/-- both objects hold the same counts c, whose sum is the total (no more than cells read), and the same points within 0 .. 255 -/
def i_Rel (k : Nat) (u : SX) (v : SY) : Prop :=
  ∃ (c : Nat → Nat) (lo hi : Nat), u = (lN (al_S c 256), nI lo, nI hi, fun j => nI (c j)) ∧ v = (lN (al_S c 256), nI lo, nI hi, fun j => nI (c j)) ∧ lo < 256 ∧ hi < 256 ∧ al_S c 256 ≤ k
theorem i_up {k : Nat} {u : SX} {v : SY} (h : i_Rel k u v) : i_Rel (k + 2) u v := by
  obtain ⟨c, lo, hi, e1, e2, h1, h2, h3⟩ := h
  exact ⟨c, lo, hi, e1, e2, h1, h2, by omega⟩
theorem i_vc0 : wpX_init (fun u => wpY_init (fun v => i_Rel 0 u v)) := by
  show i_Rel 0 (0, 0, 255, (fun _ => 0)) (0, 0, 255, (fun _ => 0))
  have e := al_S_0 256
  refine ⟨fun _ => 0, 0, 255, ?_, ?_, by decide, by decide, by omega⟩
  · rw [e]; rfl
  · rw [e]; rfl
theorem i_vc_add {k : Nat} {u : SX} {v : SY} (I : i_Rel k u v) (hk : k + 2 ≤ 1024) (v1 : Int32) : wpX_add (fun r u' => wpY_add (fun r' v' => r' = r ∧ i_Rel (k + 2) u' v') v v1) u v1 := by
  have I' := i_up I
  obtain ⟨c, lo, hi, rfl, rfl, h1, h2, h3⟩ := I
  by_cases h0 : v1 < 0
  · exact br_t h0 (br_t h0 ⟨rfl, I'⟩)
  · by_cases h5 : v1 ≤ 255
    · obtain ⟨g, hg, rfl⟩ := nI_of2 (M := 255) (n := 255) (by decide) h0 h5
      have hv : vp_in (nI g) 256 := vp_in_nI (by omega) (by decide)
      have ea : upd (fun j => nI (c j)) (nI g).toNatClampNeg (nI (c (nI g).toNatClampNeg) + 1) = (fun j => nI (al_up c g j)) := by
        rw [nI_clamp (by omega)]; exact al_updE c g
      have es : al_S (al_up c g) 256 = al_S c 256 + 1 := by rw [al_S_up, if_pos (by omega)]
      have et : lN (al_S c 256) + 1 = lN (al_S (al_up c g) 256) := by rw [lN_1, es]
      refine br_f h0 (br_t h5 ⟨hv, hv, nm_r ea (nm_r et (br_f h0 (br_t h5 ⟨hv, hv, nm_r ea (nm_r et ?_)⟩)))⟩)
      exact ⟨congrArg Int64.toInt32 et, al_up c g, lo, hi, rfl, rfl, h1, h2, by omega⟩
    · exact br_f h0 (br_f h5 (br_f h0 (br_f h5 ⟨rfl, I'⟩)))
theorem al_clamp (v1 : Int32) (s : Int64) (lo hi : Int32) (a : Nat → Int32) : ∃ pm : Nat, pm ≤ 499 ∧
    (∀ post : Int32 → SX → Prop, wX_solve_19 post (nI pm) s lo hi a → wpX_solve post (s, lo, hi, a) v1) ∧
    (∀ post : Int32 → SY → Prop, wY_solve_22 post (nI pm) s lo hi a → wpY_solve post (s, lo, hi, a) v1) := by
  by_cases h0 : 0 ≤ v1
  · by_cases h5 : v1 ≤ 499
    · obtain ⟨g, hg, rfl⟩ := nI_of2 (M := 499) (n := 499) (by decide) (Int32.not_lt.mpr h0) h5
      exact ⟨g, hg, fun post h => br_t h0 (br_t h5 h), fun post h => br_t h0 (br_t h5 h)⟩
    · exact ⟨499, by decide, fun post h => br_t h0 (br_f h5 h), fun post h => br_t h0 (br_f h5 h)⟩
  · exact ⟨0, by decide, fun post h => br_f h0 (br_t (by decide) h), fun post h => br_f h0 h⟩
theorem i_vc_solve {k : Nat} {u : SX} {v : SY} (I : i_Rel k u v) (hk : k + 2 ≤ 1024) (v1 : Int32) : wpX_solve (fun r u' => wpY_solve (fun r' v' => r' = r ∧ i_Rel (k + 2) u' v') v v1) u v1 := by
  obtain ⟨c, lo, hi, rfl, rfl, h1, h2, h3⟩ := I
  obtain ⟨pm, hp, cX, cY⟩ := al_clamp v1 (lN (al_S c 256)) (nI lo) (nI hi) (fun j => nI (c j))
  obtain ⟨G, H, hG, hH, sX, sY⟩ := al_solve c lo hi pm (by omega) hp
  exact cX _ (sX _ (cY _ (sY _ ⟨rfl, c, G, H, rfl, rfl, hG, hH, by omega⟩)))
theorem i_vc_stretch {k : Nat} {u : SX} {v : SY} (I : i_Rel k u v) (hk : k + 2 ≤ 1024) (v1 : Int32) : wpX_stretch (fun r => wpY_stretch (fun r' => r' = r ∧ i_Rel (k + 2) u v) v v1) u v1 := by
  have I' := i_up I
  obtain ⟨c, lo, hi, rfl, rfl, h1, h2, h3⟩ := I
  by_cases a : nI lo < v1
  · by_cases b : v1 < nI hi
    · have hl : lo < hi := by
        have x := Int32.lt_iff_toInt_lt.mp a
        have y := Int32.lt_iff_toInt_lt.mp b
        rw [nI_toInt (by omega)] at x y
        omega
      have e : nI hi - nI lo = nI (hi - lo) := pk_sub (by omega)
      have n0 : ¬ nI hi - nI lo = 0 := by rw [e]; exact nI_ne0 (by omega) (by omega)
      have g1 : 1 ≤ nI hi - nI lo := by rw [e]; exact nI_le (a := 1) (by omega) (by omega)
      exact br_t a (br_t b ⟨n0, br_t a (br_t b (nm_e (br_t g1 ⟨n0, rfl, I'⟩)))⟩)
    · exact br_t a (br_f b (br_t a (br_f b ⟨rfl, I'⟩)))
  · exact br_f a (br_f a ⟨rfl, I'⟩)
theorem i_vc_points {k : Nat} {u : SX} {v : SY} (I : i_Rel k u v) (hk : k + 2 ≤ 1024) : wpX_points (fun r => wpY_points (fun r' => r' = r ∧ i_Rel (k + 2) u v) v) u := by
  have I' := i_up I
  obtain ⟨c, lo, hi, rfl, rfl, h1, h2, h3⟩ := I
  exact ⟨rfl, I'⟩
end
