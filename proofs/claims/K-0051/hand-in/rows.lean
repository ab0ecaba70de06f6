section
/-! rows of kit/rows (PURE-ROWS): starting text -/
theorem pk_us {f : Nat → Int32} {k : Nat} {x : Int32} : upd f k x k = x := if_pos rfl
theorem pk_un {f : Nat → Int32} {k j : Nat} {x : Int32} (h : j ≠ k) : upd f k x j = f j := if_neg h
theorem pk_sub {a b : Nat} (h : b ≤ a) : nI a - nI b = nI (a - b) := by
  obtain ⟨c, rfl⟩ : ∃ c, a = c + b := ⟨a - b, by omega⟩
  rw [← nI_add, Int32.add_sub_cancel, Nat.add_sub_cancel]
theorem pk_le {x y : Int32} {A B : Prop} (a b : Nat) (f : a ≤ b → A) (g : b < a → B) (hx : x = nI a := by rfl) (hy : y = nI b := by rfl) (ha : a < 2 ^ 31 := by omega) (hb : b < 2 ^ 31 := by omega) : (x ≤ y → A) ∧ (¬ x ≤ y → B) := by
  subst hx hy
  rw [nI_leI ha hb]
  exact ⟨f, fun z => g (by omega)⟩
theorem pk_lt {x y : Int32} {A B : Prop} (a b : Nat) (f : a < b → A) (g : b ≤ a → B) (hx : x = nI a := by rfl) (hy : y = nI b := by rfl) (ha : a < 2 ^ 31 := by omega) (hb : b < 2 ^ 31 := by omega) : (x < y → A) ∧ (¬ x < y → B) := by
  subst hx hy
  rw [nI_ltI ha hb]
  exact ⟨f, fun z => g (by omega)⟩
theorem pk_in {x : Int32} (n N : Nat) (h : n < N) (hx : x = nI n := by rfl) (hN : N < 2 ^ 31 := by omega) : vp_in x N := by
  subst hx
  exact vp_in_nI h hN
theorem pk_cl {x : Int32} (n : Nat) (hx : x = nI n := by rfl) (h : n < 2 ^ 31 := by omega) : x.toNatClampNeg = n := by
  subst hx
  exact nI_clamp h
theorem pk_vb (z : Int32) : vp_nar .byte z.toInt8.toInt32 = z.toInt8.toInt32 := by rw [vp_nar_byte]; simp
end
section
/-! the plain law: five samples w 0 .. w 4, how many lie below v, how many are v, the median -/
def hm_b (a v : Nat) : Nat := if a < v then 1 else 0
def hm_e (a v : Nat) : Nat := if a = v then 1 else 0
def hm_lt (w : Nat → Nat) (v : Nat) : Nat := hm_b (w 0) v + hm_b (w 1) v + hm_b (w 2) v + hm_b (w 3) v + hm_b (w 4) v
def hm_eq (w : Nat → Nat) (v : Nat) : Nat := hm_e (w 0) v + hm_e (w 1) v + hm_e (w 2) v + hm_e (w 3) v + hm_e (w 4) v
theorem hm_be (a v : Nat) : hm_b a (v + 1) = hm_b a v + hm_e a v := by
  unfold hm_b hm_e
  by_cases h1 : a < v
  · rw [if_pos h1, if_pos (by omega), if_neg (by omega)]
  · by_cases h2 : a = v
    · rw [if_neg h1, if_pos (by omega), if_pos h2]
    · rw [if_neg h1, if_neg (by omega), if_neg h2]
theorem hm_b0 (a : Nat) : hm_b a 0 = 0 := if_neg (Nat.not_lt_zero a)
theorem hm_b1 (a v : Nat) : hm_b a v ≤ 1 := by unfold hm_b; split <;> omega
theorem hm_e1 (a v : Nat) : hm_e a v ≤ 1 := by unfold hm_e; split <;> omega
theorem hm_bt {a v : Nat} (h : a < v) : hm_b a v = 1 := if_pos h
theorem hm_bf {a v : Nat} (h : v ≤ a) : hm_b a v = 0 := if_neg (Nat.not_lt.mpr h)
theorem hm_et {a v : Nat} (h : a = v) : hm_e a v = 1 := if_pos h
theorem hm_ef {a v : Nat} (h : a ≠ v) : hm_e a v = 0 := if_neg h
theorem hm_step (w : Nat → Nat) (v : Nat) : hm_lt w (v + 1) = hm_lt w v + hm_eq w v := by
  unfold hm_lt hm_eq
  rw [hm_be, hm_be, hm_be, hm_be, hm_be]
  omega
theorem hm_lt0 (w : Nat → Nat) : hm_lt w 0 = 0 := by
  unfold hm_lt
  rw [hm_b0, hm_b0, hm_b0, hm_b0, hm_b0]
theorem hm_lt5 (w : Nat → Nat) (v : Nat) : hm_lt w v ≤ 5 := by
  have h0 := hm_b1 (w 0) v
  have h1 := hm_b1 (w 1) v
  have h2 := hm_b1 (w 2) v
  have h3 := hm_b1 (w 3) v
  have h4 := hm_b1 (w 4) v
  unfold hm_lt
  omega
theorem hm_eq5 (w : Nat → Nat) (v : Nat) : hm_eq w v ≤ 5 := by
  have h0 := hm_e1 (w 0) v
  have h1 := hm_e1 (w 1) v
  have h2 := hm_e1 (w 2) v
  have h3 := hm_e1 (w 3) v
  have h4 := hm_e1 (w 4) v
  unfold hm_eq
  omega
theorem hm_mono (w : Nat → Nat) (v d : Nat) : hm_lt w v ≤ hm_lt w (v + d) := by
  induction d with
  | zero => exact Nat.le_refl _
  | succ d ih =>
    have h := hm_step w (v + d)
    have e : v + (d + 1) = v + d + 1 := rfl
    rw [e, h]
    omega
/-- m is the median of w: the least level with at least three samples at or below it, or 31 -/
def hm_M (w : Nat → Nat) (m : Nat) : Prop := m ≤ 31 ∧ hm_lt w m ≤ 2 ∧ (m < 31 → 3 ≤ hm_lt w (m + 1))
theorem hm_no {w : Nat → Nat} {a b : Nat} (ha : hm_M w a) (hb : hm_M w b) (h : a < b) : False := by
  have h1 := ha.2.2 (by have := hb.1; omega)
  have h2 := hm_mono w (a + 1) (b - (a + 1))
  rw [show a + 1 + (b - (a + 1)) = b from by omega] at h2
  have h3 := hb.2.1
  omega
theorem hm_one_med {w : Nat → Nat} {a b : Nat} (ha : hm_M w a) (hb : hm_M w b) : a = b := by
  rcases Nat.lt_trichotomy a b with h | h | h
  · exact (hm_no ha hb h).elim
  · exact h
  · exact (hm_no hb ha h).elim
/-- the oldest sample leaves, g enters -/
def hm_sh (w : Nat → Nat) (g : Nat) : Nat → Nat := fun j => if j < 4 then w (j + 1) else g
theorem hm_sh0 (w : Nat → Nat) (g : Nat) : hm_sh w g 0 = w 1 := rfl
theorem hm_sh1 (w : Nat → Nat) (g : Nat) : hm_sh w g 1 = w 2 := rfl
theorem hm_sh2 (w : Nat → Nat) (g : Nat) : hm_sh w g 2 = w 3 := rfl
theorem hm_sh3 (w : Nat → Nat) (g : Nat) : hm_sh w g 3 = w 4 := rfl
theorem hm_sh4 (w : Nat → Nat) (g : Nat) : hm_sh w g 4 = g := rfl
theorem hm_sh_lt (w : Nat → Nat) (g v : Nat) : hm_lt (hm_sh w g) v + hm_b (w 0) v = hm_lt w v + hm_b g v := by
  unfold hm_lt
  rw [hm_sh0, hm_sh1, hm_sh2, hm_sh3, hm_sh4]
  omega
theorem hm_sh_eq (w : Nat → Nat) (g v : Nat) : hm_eq (hm_sh w g) v + hm_e (w 0) v = hm_eq w v + hm_e g v := by
  unfold hm_eq
  rw [hm_sh0, hm_sh1, hm_sh2, hm_sh3, hm_sh4]
  omega
theorem hm_sh_in {w : Nat → Nat} {g : Nat} (h : ∀ j, j < 5 → w j < 32) (hg : g < 32) : ∀ j, j < 5 → hm_sh w g j < 32 := by
  intro j hj
  unfold hm_sh
  by_cases h4 : j < 4
  · rw [if_pos h4]; exact h _ (by omega)
  · rw [if_neg h4]; exact hg
theorem hm_eq0 (w : Nat → Nat) (v : Nat) : hm_e (w 0) v ≤ hm_eq w v := by
  unfold hm_eq
  omega
theorem hm_lt00 (w : Nat → Nat) (v : Nat) : hm_b (w 0) v ≤ hm_lt w v := by
  unfold hm_lt
  omega
/-- the ring: cell (i + j) mod 5 holds sample j; storing g at i and moving on shifts the samples -/
theorem hm_ring {R : Nat → Int32} {w : Nat → Nat} {i g : Nat} (hi : i < 5) (h : ∀ j, j < 5 → R ((i + j) % 5) = nI (w j)) : ∀ j, j < 5 → upd R i (nI g) (((i + 1) % 5 + j) % 5) = nI (hm_sh w g j) := by
  intro j hj
  by_cases h4 : j < 4
  · rw [pk_un (by omega), show ((i + 1) % 5 + j) % 5 = (i + (j + 1)) % 5 from by omega, h (j + 1) (by omega)]
    exact congrArg nI (if_pos h4).symm
  · rw [show ((i + 1) % 5 + j) % 5 = i from by omega, pk_us]
    exact congrArg nI (if_neg h4).symm
theorem hm_nb8 : ∀ g, g < 128 → (nI g).toInt8.toInt32 = nI g := by decide +kernel
theorem hm_nb {g : Nat} (h : g < 128) : vp_nar .byte (nI g).toInt8.toInt32 = nI g := by
  rw [pk_vb, hm_nb8 g h]
theorem hm_nv {g : Nat} (h : g < 128) : vp_nar .byte (nI g) = nI g := by
  rw [vp_nar_byte, hm_nb8 g h]
end
section
/-! the component's push against the plain law -/
theorem hm_x168 {post : Int32 → SX → Prop} {fi : Int32} {H R : Nat → Int32} {w : Nat → Nat} (hH : ∀ x, H x = nI (hm_eq w x)) (K : ∀ m, hm_M w m → post (nI m) (fi, nI m, nI (hm_lt w m), H, R)) : ∀ n m : Nat, m ≤ 31 → 31 - m < n → hm_lt w m ≤ 2 → wX_push_168 post fi H R n (nI m) (nI (hm_lt w m)) := by
  intro n
  induction n with
  | zero => intro m _ h; omega
  | succ n ih =>
    intro m hm hn h2
    have h5 := hm_lt5 w m
    have e5 := hm_eq5 w m
    have e1 : nI (hm_lt w m) + H (nI m).toNatClampNeg = nI (hm_lt w m + hm_eq w m) := by
      rw [nI_clamp (by omega), hH, nI_add]
    rw [wX_push_168]
    refine pk_le 31 m (fun h => K m ⟨hm, h2, fun z => by omega⟩) (fun h => ⟨vp_in_nI (by omega) (by omega), ?_⟩)
    refine pk_lt 2 (hm_lt w m + hm_eq w m) (fun h3 => K m ⟨hm, h2, fun _ => ?_⟩) (fun h3 => ⟨vp_in_nI (by omega) (by omega), ?_⟩) rfl e1
    · rw [hm_step]; omega
    · refine nm_r (e' := nI (hm_lt w (m + 1))) ?_ (nm_r (e' := nI (m + 1)) (nI_1 m) (ih (m + 1) (by omega) (by omega) ?_))
      · rw [e1, hm_step]
      · rw [hm_step]; omega
theorem hm_x122 {post : Int32 → SX → Prop} {fi : Int32} {H R : Nat → Int32} {w : Nat → Nat} (hH : ∀ x, H x = nI (hm_eq w x)) (K : ∀ m, hm_M w m → post (nI m) (fi, nI m, nI (hm_lt w m), H, R)) : ∀ n m : Nat, m ≤ 31 → m < n → wX_push_122 post fi H R n (nI m) (nI (hm_lt w m)) := by
  intro n
  induction n with
  | zero => intro m _ h; omega
  | succ n ih =>
    intro m hm hn
    have h5 := hm_lt5 w m
    rw [wX_push_122]
    refine pk_le (hm_lt w m) 2 (fun h => ⟨32, hm_x168 hH K 32 m hm (by omega) h⟩) (fun h => ?_)
    refine pk_le m 0 (fun h0 => ?_) (fun h0 => ?_)
    · have z : m = 0 := by omega
      rw [z, hm_lt0] at h
      omega
    · obtain ⟨p, rfl⟩ : ∃ p, m = p + 1 := ⟨m - 1, by omega⟩
      have hs := hm_step w p
      refine nm_r (e' := nI p) (nI_pred p) ⟨vp_in_nI (by omega) (by omega), nm_r (e' := nI (hm_lt w p)) ?_ (ih p (by omega) (by omega))⟩
      rw [nI_clamp (by omega), hH, pk_sub (by omega), show hm_lt w (p + 1) - hm_eq w p = hm_lt w p from by omega]
theorem hm_x99 {post : Int32 → SX → Prop} {H R : Nat → Int32} {w : Nat → Nat} {i m : Nat} (hi : i < 5) (hm : m ≤ 31) (hH : ∀ x, H x = nI (hm_eq w x)) (K : ∀ m, hm_M w m → post (nI m) (nI ((i + 1) % 5), nI m, nI (hm_lt w m), H, R)) : wX_push_99 post (nI i) (nI m) (nI (hm_lt w m)) H R := by
  unfold wX_push_99
  refine nm_r (e' := nI (i + 1)) (nI_1 i) ?_
  refine pk_lt (i + 1) 5 (fun h => ?_) (fun h => ?_)
  · rw [Nat.mod_eq_of_lt h] at K
    exact ⟨32, hm_x122 hH K 32 m hm (by omega)⟩
  · rw [show (i + 1) % 5 = 0 from by omega] at K
    exact ⟨32, hm_x122 (fi := 0) hH K 32 m hm (by omega)⟩
theorem hm_x55 {post : Int32 → SX → Prop} {H R : Nat → Int32} {w : Nat → Nat} {g i m b : Nat} (hg : g < 32) (hi : i < 5) (hm : m ≤ 31) (hb : b + hm_b g m = hm_lt w m) (hH : ∀ x, H x = nI (hm_eq w x - hm_e g x)) (hG : 1 ≤ hm_eq w g)
    (K : ∀ (H' : Nat → Int32), (∀ x, H' x = nI (hm_eq w x)) → ∀ m, hm_M w m → post (nI m) (nI ((i + 1) % 5), nI m, nI (hm_lt w m), H', upd R i (nI g))) : wX_push_55 post (nI g) (nI i) (nI m) (nI b) H R := by
  unfold wX_push_55
  have e5 := hm_eq5 w g
  have eg : hm_e g g = 1 := hm_et rfl
  have ev : vp_nar .byte ((H (nI g).toNatClampNeg + 1).toInt8.toInt32) = nI (hm_eq w g) := by
    rw [nI_clamp (by omega), hH, nI_1, hm_nb (by omega), eg, show hm_eq w g - 1 + 1 = hm_eq w g from by omega]
  have eH : ∀ x, upd H g (nI (hm_eq w g)) x = nI (hm_eq w x) := by
    intro x
    by_cases hx : x = g
    · rw [hx, pk_us]
    · rw [pk_un hx, hH, hm_ef (fun z => hx z.symm), Nat.sub_zero]
  have hv : vp_in (nI g) 32 := vp_in_nI hg (by omega)
  refine ⟨vp_in_nI hi (by omega), nm_r (e' := upd R i (nI g)) ?_ ⟨hv, hv, nm_r (e' := upd H g (nI (hm_eq w g))) ?_ ?_⟩⟩
  · rw [nI_clamp (by omega), hm_nb (by omega)]
  · rw [ev, nI_clamp (by omega)]
  · refine pk_le m g (fun h => ?_) (fun h => ?_)
    · rw [hm_bf h] at hb
      rw [show b = hm_lt w m from by omega]
      exact hm_x99 hi hm eH (K _ eH)
    · rw [hm_bt h] at hb
      refine nm_r (e' := nI (hm_lt w m)) ?_ (hm_x99 hi hm eH (K _ eH))
      rw [nI_1, hb]
theorem hm_xpush {post : Int32 → SX → Prop} {H R : Nat → Int32} {w : Nat → Nat} {g i m : Nat} (hg : g < 32) (hi : i < 5) (hm : m ≤ 31) (hw : ∀ j, j < 5 → w j < 32) (hH : ∀ x, H x = nI (hm_eq w x)) (hR : ∀ j, j < 5 → R ((i + j) % 5) = nI (w j))
    (K : ∀ (H' : Nat → Int32), (∀ x, H' x = nI (hm_eq (hm_sh w g) x)) → ∀ m, hm_M (hm_sh w g) m → post (nI m) (nI ((i + 1) % 5), nI m, nI (hm_lt (hm_sh w g) m), H', upd R i (nI g))) : wpX_push post (nI i, nI m, nI (hm_lt w m), H, R) (nI g) := by
  unfold wpX_push
  dsimp only
  have w0 : w 0 < 32 := hw 0 (by omega)
  have e5 := hm_eq5 w (w 0)
  have l5 := hm_lt5 w m
  have e0 : hm_e (w 0) (w 0) = 1 := hm_et rfl
  have c0 := hm_eq0 w (w 0)
  have b0 := hm_lt00 w m
  have er : R (nI i).toNatClampNeg = nI (w 0) := by
    have := hR 0 (by omega)
    rw [Nat.add_zero, Nat.mod_eq_of_lt hi] at this
    rw [nI_clamp (by omega), this]
  have ev : vp_nar .byte ((H (nI (w 0)).toNatClampNeg - 1).toInt8.toInt32) = nI (hm_eq w (w 0) - 1) := by
    rw [nI_clamp (by omega), hH]
    have e : nI (hm_eq w (w 0)) - 1 = nI (hm_eq w (w 0) - 1) := pk_sub (b := 1) (by omega)
    rw [e, hm_nb (by omega)]
  have eH : ∀ x, upd H (w 0) (nI (hm_eq w (w 0) - 1)) x = nI (hm_eq (hm_sh w g) x - hm_e g x) := by
    intro x
    have s := hm_sh_eq w g x
    have cx := hm_eq0 w x
    by_cases hx : x = w 0
    · subst hx
      rw [pk_us]
      exact congrArg nI (by omega)
    · rw [pk_un hx, hH]
      rw [hm_ef (fun z => hx z.symm)] at s
      exact congrArg nI (by omega)
  have hG : 1 ≤ hm_eq (hm_sh w g) g := by
    have s : hm_e g g ≤ hm_eq (hm_sh w g) g := by
      unfold hm_eq
      rw [hm_sh4]
      omega
    rw [hm_et rfl] at s
    exact s
  have hs := hm_sh_lt w g m
  have hv : vp_in (nI (w 0)) 32 := vp_in_nI w0 (by omega)
  refine br_f (nI_pos (by omega)) (pk_le g 31 (fun _ => ?_) (fun z => by omega))
  refine ⟨vp_in_nI hi (by omega), nm_r (e' := nI (w 0)) er ⟨hv, hv, nm_r (e' := upd H (w 0) (nI (hm_eq w (w 0) - 1))) ?_ ?_⟩⟩
  · rw [ev, nI_clamp (by omega)]
  · refine pk_le m (w 0) (fun h => ?_) (fun h => ?_)
    · rw [hm_bf h] at hs
      exact hm_x55 hg hi hm (by omega) eH hG K
    · rw [hm_bt h] at hs b0
      refine nm_r (e' := nI (hm_lt w m - 1)) (pk_sub (b := 1) (by omega)) ?_
      exact hm_x55 hg hi hm (by omega) eH hG K
end
section
/-! the reference against the plain law -/
theorem hm_cnt {x y : Int32} {P : Int32 → Prop} {a v c : Nat} (hx : x.toInt = (v : Int) - 1) (hy : y = nI a) (ha : a < 32) (h : P (nI (c + hm_b a v))) : (x < y → P (nI c)) ∧ (¬ x < y → ∀ z, z = nI c + 1 → P z) := by
  have e : (x < y) ↔ v ≤ a := by
    rw [hy, Int32.lt_iff_toInt_lt, hx, nI_toInt (by omega)]
    omega
  by_cases hc : v ≤ a
  · rw [hm_bf hc] at h
    exact br_t (e.mpr hc) h
  · rw [hm_bt (by omega)] at h
    exact br_f (fun z => hc (e.mp z)) (nm_r (nI_1 c) h)
theorem hm_yat {post : Int32 → Prop} {f x : Int32} {W : Nat → Int32} {w : Nat → Nat} {v : Nat} (hW : ∀ j, j < 5 → W j = nI (w j)) (hw : ∀ j, j < 5 → w j < 32) (hx : x.toInt = (v : Int) - 1) (K : post (nI (hm_lt w v))) : wpY_atMost post (f, W) x := by
  unfold wpY_atMost
  dsimp only
  refine hm_cnt (P := fun z => wY_atMost_15 post x z f W) (c := 0) hx (hW 0 (by omega)) (hw 0 (by omega)) ?_
  refine hm_cnt (P := fun z => wY_atMost_28 post x z f W) hx (hW 1 (by omega)) (hw 1 (by omega)) ?_
  refine hm_cnt (P := fun z => wY_atMost_41 post x z f W) hx (hW 2 (by omega)) (hw 2 (by omega)) ?_
  refine hm_cnt (P := fun z => wY_atMost_54 post x z f W) hx (hW 3 (by omega)) (hw 3 (by omega)) ?_
  refine hm_cnt (P := post) hx (hW 4 (by omega)) (hw 4 (by omega)) ?_
  rw [Nat.zero_add]
  exact K
theorem hm_y70 {post : Int32 → SY → Prop} {f : Int32} {W : Nat → Int32} {w : Nat → Nat} (hW : ∀ j, j < 5 → W j = nI (w j)) (hw : ∀ j, j < 5 → w j < 32) (K : ∀ m, hm_M w m → post (nI m) (nI m, W)) : ∀ n m : Nat, m ≤ 31 → 31 - m < n → hm_lt w m ≤ 2 → wY_push_70 post f W n (nI m) := by
  intro n
  induction n with
  | zero => intro m _ h; omega
  | succ n ih =>
    intro m hm hn h2
    have h5 := hm_lt5 w (m + 1)
    rw [wY_push_70]
    refine pk_le 31 m (fun h => K m ⟨hm, h2, fun z => by omega⟩) (fun h => ?_)
    refine hm_yat (w := w) (v := m + 1) hW hw (by rw [nI_toInt (by omega)]; omega) ?_
    refine pk_le 3 (hm_lt w (m + 1)) (fun h3 => K m ⟨hm, h2, fun _ => h3⟩) (fun h3 => ?_)
    exact nm_r (e' := nI (m + 1)) (nI_1 m) (ih (m + 1) (by omega) (by omega) (by omega))
theorem hm_ypush {post : Int32 → SY → Prop} {f : Int32} {W : Nat → Int32} {w : Nat → Nat} {g : Nat} (hg : g < 32) (hW : ∀ j, j < 5 → W j = nI (w j)) (hw : ∀ j, j < 5 → w j < 32)
    (K : ∀ W' : Nat → Int32, (∀ j, j < 5 → W' j = nI (hm_sh w g j)) → ∀ m, hm_M (hm_sh w g) m → post (nI m) (nI m, W')) : wpY_push post (f, W) (nI g) := by
  unfold wpY_push
  dsimp only
  have w1 := hw 1 (by omega)
  have w2 := hw 2 (by omega)
  have w3 := hw 3 (by omega)
  have w4 := hw 4 (by omega)
  have W1 := hW 1 (by omega)
  have W2 := hW 2 (by omega)
  have W3 := hW 3 (by omega)
  have W4 := hW 4 (by omega)
  refine br_f (nI_pos (by omega)) (pk_le g 31 (fun _ => ?_) (fun z => by omega))
  refine nm_r (e' := upd W 0 (nI (w 1))) (by rw [W1, hm_nv (by omega)]) ?_
  refine nm_r (e' := upd (upd W 0 (nI (w 1))) 1 (nI (w 2))) (by rw [pk_un (j := 2) (by decide), W2, hm_nv (by omega)]) ?_
  refine nm_r (e' := upd (upd (upd W 0 (nI (w 1))) 1 (nI (w 2))) 2 (nI (w 3))) (by rw [pk_un (j := 3) (by decide), pk_un (j := 3) (by decide), W3, hm_nv (by omega)]) ?_
  refine nm_r (e' := upd (upd (upd (upd W 0 (nI (w 1))) 1 (nI (w 2))) 2 (nI (w 3))) 3 (nI (w 4))) (by rw [pk_un (j := 4) (by decide), pk_un (j := 4) (by decide), pk_un (j := 4) (by decide), W4, hm_nv (by omega)]) ?_
  refine nm_r (e' := upd (upd (upd (upd (upd W 0 (nI (w 1))) 1 (nI (w 2))) 2 (nI (w 3))) 3 (nI (w 4))) 4 (nI g)) (by rw [hm_nb (by omega)]) ?_
  have hW' : ∀ j, j < 5 → upd (upd (upd (upd (upd W 0 (nI (w 1))) 1 (nI (w 2))) 2 (nI (w 3))) 3 (nI (w 4))) 4 (nI g) j = nI (hm_sh w g j) := by
    intro j hj
    match j, hj with
    | 0, _ => rfl
    | 1, _ => rfl
    | 2, _ => rfl
    | 3, _ => rfl
    | 4, _ => rfl
  exact ⟨32, hm_y70 (w := hm_sh w g) hW' (hm_sh_in hw hg) (K _ hW') 32 0 (by omega) (by omega) (by rw [hm_lt0]; omega)⟩
end
section
/-- both objects hold the samples w 0 (oldest) .. w 4 and their median m -/
def i_Rel (_ : Nat) (u : SX) (v : SY) : Prop := ∃ (w : Nat → Nat) (i m : Nat) (H R W : Nat → Int32), u = (nI i, nI m, nI (hm_lt w m), H, R) ∧ v = (nI m, W) ∧ i < 5 ∧ hm_M w m ∧ (∀ j, j < 5 → w j < 32) ∧ (∀ x, H x = nI (hm_eq w x)) ∧ (∀ j, j < 5 → R ((i + j) % 5) = nI (w j)) ∧ (∀ j, j < 5 → W j = nI (w j))
theorem i_up {k : Nat} {u : SX} {v : SY} (h : i_Rel k u v) : i_Rel (k + 2) u v := h
theorem hm_h0 : vp_nar .byte 5 = nI 5 := hm_nv (g := 5) (by omega)
theorem hm_z (x : Nat) : hm_eq (fun _ => 0) x = if x = 0 then 5 else 0 := by
  unfold hm_eq
  by_cases h : x = 0
  · rw [if_pos h, hm_et h.symm]
  · rw [if_neg h, hm_ef (fun z => h z.symm)]
theorem i_vc0 : wpX_init (fun u => wpY_init (fun v => i_Rel 0 u v)) := by
  unfold wpX_init
  refine nm_r (e' := upd (fun _ => 0) 0 (nI 5)) (by rw [hm_h0]) ?_
  refine ⟨fun _ => 0, 0, 0, upd (fun _ => 0) 0 (nI 5), fun _ => 0, fun _ => 0, ?_, rfl, by omega, ⟨by omega, by decide, fun _ => by decide⟩, fun _ _ => Nat.zero_lt_succ 31, fun x => ?_, fun _ _ => rfl, fun _ _ => rfl⟩
  · rw [hm_lt0]; rfl
  · rw [hm_z]
    by_cases h : x = 0
    · rw [if_pos h, h, pk_us]
    · rw [if_neg h, pk_un h]; rfl
theorem i_vc_push {k : Nat} {u : SX} {v : SY} (I : i_Rel k u v) (hk : k + 2 ≤ 1024) (v1 : Int32) : wpX_push (fun r u' => wpY_push (fun r' v' => r' = r ∧ i_Rel (k + 2) u' v') v v1) u v1 := by
  by_cases h0 : v1 < 0
  · obtain ⟨w, i, m, H, R, W, rfl, rfl, hr⟩ := I
    exact br_t h0 (br_t h0 ⟨rfl, w, i, m, H, R, W, rfl, rfl, hr⟩)
  · by_cases h31 : v1 ≤ 31
    · obtain ⟨g, hg, rfl⟩ := nI_of2 (n := 31) (by decide) h0 h31
      obtain ⟨w, i, m, H, R, W, rfl, rfl, hi, hM, hw, hH, hR, hW⟩ := I
      refine hm_xpush (by omega) hi hM.1 hw hH hR ?_
      intro H' hH' m1 h1
      refine hm_ypush (by omega) hW hw ?_
      intro W' hW' m2 h2
      cases hm_one_med h1 h2
      exact ⟨rfl, hm_sh w g, (i + 1) % 5, m1, H', upd R i (nI g), W', rfl, rfl, by omega, h1, hm_sh_in hw (by omega), hH', hm_ring hi hR, hW'⟩
    · obtain ⟨w, i, m, H, R, W, rfl, rfl, hr⟩ := I
      exact br_f h0 (br_f h31 (br_f h0 (br_f h31 ⟨rfl, w, i, m, H, R, W, rfl, rfl, hr⟩)))
theorem i_vc_median {k : Nat} {u : SX} {v : SY} (I : i_Rel k u v) (hk : k + 2 ≤ 1024) : wpX_median (fun r => wpY_median (fun r' => r' = r ∧ i_Rel (k + 2) u v) v) u := by
  obtain ⟨w, i, m, H, R, W, rfl, rfl, hr⟩ := I
  exact ⟨rfl, w, i, m, H, R, W, rfl, rfl, hr⟩
theorem i_vc_below {k : Nat} {u : SX} {v : SY} (I : i_Rel k u v) (hk : k + 2 ≤ 1024) : wpX_below (fun r => wpY_below (fun r' => r' = r ∧ i_Rel (k + 2) u v) v) u := by
  obtain ⟨w, i, m, H, R, W, rfl, rfl, hi, hM, hw, hr⟩ := I
  unfold wpX_below wpY_below
  dsimp only
  refine hm_yat (w := w) (v := m) hr.2.2 hw ?_ ⟨rfl, w, i, m, H, R, W, rfl, rfl, hi, hM, hw, hr⟩
  have hm := hM.1
  match m, hm with
  | 0, _ => decide
  | p + 1, hp => rw [nI_pred, nI_toInt (by omega)]; omega
end
