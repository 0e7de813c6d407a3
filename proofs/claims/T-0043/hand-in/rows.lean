section
/-- bit j of a number -/
def ps_b (w j : Nat) : Nat := w / 2 ^ j % 2
/-- the component's parity of w after its first j bits -/
def ps_par (w : Nat) : Nat → Int32
  | 0 => 0
  | j + 1 => ps_par w j ^^^ ((nI w >>> (nI j &&& 31)) &&& 1)
/-- the reference's count of ones among the first j bits of w -/
def ps_sum (w : Nat) : Nat → Int32
  | 0 => 0
  | j + 1 => ps_sum w j + nI (ps_b w j)
/-- the reference's word out of d bits of w from bit j upwards, the highest first -/
def ps_hor (w : Nat) : Nat → Nat → Int32
  | 0 => fun _ => 0
  | d + 1 => fun j => ps_hor w d (j + 1) * 2 + nI (ps_b w j)
/-- v with its even-parity bit -/
def ps_enc (v : Nat) : Nat := v + 128 * ((ps_b v 0 + ps_b v 1 + ps_b v 2 + ps_b v 3 + ps_b v 4 + ps_b v 5 + ps_b v 6) % 2)
theorem ps_raw : ∀ w, w < 256 → ps_hor w 8 0 = nI w := by decide +kernel
theorem ps_low : ∀ w, w < 256 → ps_hor w 7 0 = nI w &&& 127 := by decide +kernel
theorem ps_even : ∀ w, w < 256 → (ps_par w 8 = 0 ↔ ps_sum w 8 - ps_sum w 8 / 2 * 2 = 0) := by decide +kernel
theorem ps_encI : ∀ v, v < 128 → nI v + 128 * ps_par v 7 = nI (ps_enc v) ∧ ps_enc v < 256 := by decide +kernel
theorem ps_encB : ∀ v, v < 128 → ∀ j, j < 7 → ps_b (ps_enc v) j = ps_b v j := by decide +kernel
theorem ps_encP : ∀ v, v < 128 → ps_sum v 7 - ps_sum v 7 / 2 * 2 = nI (ps_b (ps_enc v) 7) := by decide +kernel
theorem ps_half : ∀ x, x < 128 → nI x - nI x / 2 * 2 = nI (x % 2) ∧ nI x / 2 = nI (x / 2) := by decide +kernel
theorem ps_flX : ∀ t, t < 8 → ∀ w, w < 256 → nI w ^^^ ((1 : Int32) <<< (nI t &&& 31)) = nI (w ^^^ 2 ^ t) ∧ w ^^^ 2 ^ t < 256 := by decide +kernel
theorem ps_flY : ∀ t, t < 8 → ∀ w, w < 256 → 1 - nI (ps_b w t) = nI (ps_b (w ^^^ 2 ^ t) t) := by decide +kernel
theorem ps_flB {w t j : Nat} (h : ¬ j = t) : ps_b (w ^^^ 2 ^ t) j = ps_b w j := by
  have hd : decide (t = j) = false := decide_eq_false (fun e => h e.symm)
  unfold ps_b
  rw [← Nat.toNat_testBit, ← Nat.toNat_testBit, Nat.testBit_xor, Nat.testBit_two_pow, hd, Bool.xor_false]
theorem ps_div (w j : Nat) : w / 2 ^ j / 2 = w / 2 ^ (j + 1) := by
  rw [Nat.div_div_eq_div_mul, Nat.pow_succ]
theorem ps_dlt {w : Nat} (j : Nat) (h : w < 128) : w / 2 ^ j < 128 := Nat.lt_of_le_of_lt (Nat.div_le_self _ _) h
theorem ps_us {f : Nat → Int32} {k : Nat} {x : Int32} : upd f k x k = x := if_pos rfl
theorem ps_un {f : Nat → Int32} {k j : Nat} {x : Int32} (h : ¬ j = k) : upd f k x j = f j := if_neg h
theorem ps_m1 (n : Nat) : nI (n + 1) + (-1) = nI n := by
  rw [nI_succ, Int32.add_assoc]
  show nI n + 0 = nI n
  exact Int32.add_zero _
theorem ps_ix (m j : Nat) : nI m * 8 + nI j = nI (m * 8 + j) := by
  have e : nI m * 8 = nI (m * 8) := (Int32.ofNat_mul m 8).symm
  rw [e, nI_add]
theorem ps_in {m j : Nat} (hm : m < 8) (hj : j < 8) : vp_in (nI m * 8 + nI j) 64 := by
  rw [ps_ix]; exact vp_in_nI (by omega) (by decide)
theorem ps_cl {m j : Nat} (hm : m < 8) (hj : j < 8) : (nI m * 8 + nI j).toNatClampNeg = m * 8 + j := by
  rw [ps_ix]; exact nI_clamp (by omega)
/-- the first m words and their bits -/
def ps_H (m : Nat) (a b : Nat → Int32) : Prop := ∀ i, i < m → ∃ w, w < 256 ∧ a i = nI w ∧ ∀ j, j < 8 → b (i * 8 + j) = nI (ps_b w j)
theorem ps_put {m v : Nat} {a b b' : Nat → Int32} (hv : v < 128) (H : ps_H m a b) (h1 : ∀ i, i < m * 8 → b' i = b i) (h2 : ∀ i, i < 7 → b' (m * 8 + i) = nI (ps_b v i)) (h3 : b' (m * 8 + 7) = ps_sum v 7 - ps_sum v 7 / 2 * 2) : ps_H (m + 1) (upd a m (nI v + 128 * ps_par v 7)) b' := by
  intro i hi
  by_cases e : i = m
  · subst e
    refine ⟨ps_enc v, (ps_encI v hv).2, ps_us.trans (ps_encI v hv).1, fun j hj => ?_⟩
    by_cases e7 : j = 7
    · subst e7
      exact h3.trans (ps_encP v hv)
    · rw [h2 j (by omega), ps_encB v hv j (by omega)]
  · obtain ⟨w, hw, ea, eb⟩ := H i (by omega)
    exact ⟨w, hw, (ps_un e).trans ea, fun j hj => (h1 _ (by omega)).trans (eb j hj)⟩
theorem ps_flip {m i t : Nat} {a b : Nat → Int32} (ht : t < 8) (hi : i < m) (H : ps_H m a b) : ps_H m (upd a i (a i ^^^ ((1 : Int32) <<< (nI t &&& 31)))) (upd b (i * 8 + t) (1 - b (i * 8 + t))) := by
  intro q hq
  obtain ⟨w, hw, ea, eb⟩ := H q hq
  by_cases e : q = i
  · subst e
    refine ⟨w ^^^ 2 ^ t, (ps_flX t ht w hw).2, ?_, fun j hj => ?_⟩
    · rw [ps_us, ea]; exact (ps_flX t ht w hw).1
    · by_cases ej : j = t
      · subst ej
        rw [ps_us, eb j hj]; exact ps_flY j hj w hw
      · rw [ps_un (by omega), eb j hj, ps_flB ej]
  · exact ⟨w, hw, (ps_un e).trans ea, fun j hj => (ps_un (by omega)).trans (eb j hj)⟩
end
section
theorem ps_xput {post : Int32 → SX → Prop} {w : Nat} {fc fk : Int32} {a : Nat → Int32} (hi : vp_in fk 8) (h : post 0 (fc, fk + 1, upd a fk.toNatClampNeg (nI w + 128 * ps_par w 7))) : ∀ d j : Nat, j + d = 7 → wX_put_30 post (nI w) fc fk a (d + 1) (ps_par w j) (nI j) := by
  intro d
  induction d with
  | zero =>
    intro j hj
    have e : j = 7 := by omega
    subst e
    have h7 : (7 : Int32) ≤ nI 7 := nI_le (a := 7) (b := 7) (by omega) (by omega)
    exact br_t h7 ⟨hi, nm_e (nm_e h)⟩
  | succ d ih =>
    intro j hj
    have h7 : ¬ (7 : Int32) ≤ nI j := nI_ge (b := 7) (by omega) (by omega)
    exact br_f h7 (nm_e (nm_r (nI_1 j) (ih (j + 1) (by omega))))
theorem ps_xget {post : Int32 → Prop} {w : Nat} {fc fk : Int32} {a : Nat → Int32} (h1 : ps_par w 8 = 0 → post (nI w &&& 127)) (h2 : ¬ ps_par w 8 = 0 → post (-4)) : ∀ d j : Nat, j + d = 8 → wX_get_27 post (nI w) fc fk a (d + 1) (ps_par w j) (nI j) := by
  intro d
  induction d with
  | zero =>
    intro j hj
    have e : j = 8 := by omega
    subst e
    have h8 : (8 : Int32) ≤ nI 8 := nI_le (a := 8) (b := 8) (by omega) (by omega)
    exact br_t h8 (br_c h1 h2)
  | succ d ih =>
    intro j hj
    have h8 : ¬ (8 : Int32) ≤ nI j := nI_ge (b := 8) (by omega) (by omega)
    exact br_f h8 (nm_e (nm_r (nI_1 j) (ih (j + 1) (by omega))))
theorem ps_two : ¬ (2 : Int32) = 0 := by decide
theorem ps_yput {post : Int32 → SY → Prop} {w m : Nat} {fc : Int32} {b : Nat → Int32} (hw : w < 128) (hm : m < 8)
    (h : ∀ b' : Nat → Int32, (∀ i, i < m * 8 → b' i = b i) → (∀ i, i < 7 → b' (m * 8 + i) = nI (ps_b w i)) → b' (m * 8 + 7) = ps_sum w 7 - ps_sum w 7 / 2 * 2 → post 0 (fc, nI m + 1, b')) :
    ∀ d j : Nat, j + d = 7 → ∀ (x : Int32) (b1 : Nat → Int32), x = nI (w / 2 ^ j) → (∀ i, i < m * 8 → b1 i = b i) → (∀ i, i < j → b1 (m * 8 + i) = nI (ps_b w i)) → wY_put_33 post fc (nI m) (d + 1) x (ps_sum w j) (nI j) b1 := by
  intro d
  induction d with
  | zero =>
    intro j hj x b1 hx hl hn
    have e : j = 7 := by omega
    subst e
    have h7 : (7 : Int32) ≤ nI 7 := nI_le (a := 7) (b := 7) (by omega) (by omega)
    have hcl : (nI m * 8 + 7).toNatClampNeg = m * 8 + 7 := ps_cl (j := 7) hm (by omega)
    have hin : vp_in (nI m * 8 + 7) 64 := ps_in (j := 7) hm (by omega)
    refine br_t h7 ⟨ps_two, hin, nm_e (nm_e (h _ (fun i hi => ?_) (fun i hi => ?_) ?_))⟩
    · rw [hcl, ps_un (by omega)]; exact hl i hi
    · rw [hcl, ps_un (by omega)]; exact hn i hi
    · rw [hcl]; exact ps_us
  | succ d ih =>
    intro j hj x b1 hx hl hn
    have h7 : ¬ (7 : Int32) ≤ nI j := nI_ge (b := 7) (by omega) (by omega)
    have hcl : (nI m * 8 + nI j).toNatClampNeg = m * 8 + j := ps_cl hm (by omega)
    have hr : x - x / 2 * 2 = nI (ps_b w j) := by rw [hx]; exact (ps_half _ (ps_dlt j hw)).1
    have hd : x / 2 = nI (w / 2 ^ (j + 1)) := by rw [hx, (ps_half _ (ps_dlt j hw)).2, ps_div]
    have eU : upd b1 (nI m * 8 + nI j).toNatClampNeg (x - x / 2 * 2) = upd b1 (m * 8 + j) (nI (ps_b w j)) := by rw [hcl, hr]
    have eS : ps_sum w j + (x - x / 2 * 2) = ps_sum w (j + 1) := by rw [hr]; rfl
    refine br_f h7 ⟨ps_two, ps_in hm (by omega), nm_r eU ⟨ps_two, nm_r eS ⟨ps_two, nm_e (nm_r (nI_1 j) (ih (j + 1) (by omega) _ _ hd (fun i hi => ?_) (fun i hi => ?_)))⟩⟩⟩
    · rw [ps_un (by omega)]; exact hl i hi
    · by_cases e : i = j
      · subst e; exact ps_us
      · rw [ps_un (by omega)]; exact hn i (by omega)
theorem ps_yraw {post : Int32 → Prop} {w i : Nat} {fc fk : Int32} {b : Nat → Int32} (hi : i < 8) (hb : ∀ j, j < 8 → b (i * 8 + j) = nI (ps_b w j)) (h : post (ps_hor w 8 0)) : ∀ j d : Nat, j + d = 8 → ∀ x : Int32, x = nI j + (-1) → wY_raw_20 post (nI i) fc fk b (j + 1) (ps_hor w d j) x := by
  intro j
  induction j with
  | zero =>
    intro d hd x hx
    have e : d = 8 := by omega
    subst e
    have h0 : x < 0 := by rw [hx]; decide
    exact br_t h0 h
  | succ j ih =>
    intro d hd x hx
    rw [ps_m1] at hx
    subst hx
    have hg : ps_hor w d (j + 1) * 2 + b (nI i * 8 + nI j).toNatClampNeg = ps_hor w (d + 1) j := by
      rw [ps_cl hi (by omega), hb j (by omega)]; rfl
    exact br_f (nI_pos (by omega)) ⟨ps_in hi (by omega), nm_r hg (nm_e (ih (d + 1) (by omega) _ rfl))⟩
theorem ps_yget6 {post : Int32 → Prop} {w i : Nat} {fc fk : Int32} {b : Nat → Int32} (hi : i < 8) (hb : ∀ j, j < 8 → b (i * 8 + j) = nI (ps_b w j)) (h : post (ps_hor w 7 0)) : ∀ j d : Nat, j + d = 7 → ∀ x : Int32, x = nI j + (-1) → wY_get_60 post (nI i) fc fk b (j + 1) (ps_hor w d j) x := by
  intro j
  induction j with
  | zero =>
    intro d hd x hx
    have e : d = 7 := by omega
    subst e
    have h0 : x < 0 := by rw [hx]; decide
    exact br_t h0 h
  | succ j ih =>
    intro d hd x hx
    rw [ps_m1] at hx
    subst hx
    have hg : ps_hor w d (j + 1) * 2 + b (nI i * 8 + nI j).toNatClampNeg = ps_hor w (d + 1) j := by
      rw [ps_cl hi (by omega), hb j (by omega)]; rfl
    exact br_f (nI_pos (by omega)) ⟨ps_in hi (by omega), nm_r hg (nm_e (ih (d + 1) (by omega) _ rfl))⟩
theorem ps_yget {post : Int32 → Prop} {w i : Nat} {fc fk : Int32} {b : Nat → Int32} (hi : i < 8) (hb : ∀ j, j < 8 → b (i * 8 + j) = nI (ps_b w j)) (h1 : ps_sum w 8 - ps_sum w 8 / 2 * 2 = 0 → post (ps_hor w 7 0)) (h2 : ¬ ps_sum w 8 - ps_sum w 8 / 2 * 2 = 0 → post (-4)) : ∀ d j : Nat, j + d = 8 → wY_get_19 post (nI i) fc fk b (d + 1) (ps_sum w j) (nI j) := by
  intro d
  induction d with
  | zero =>
    intro j hj
    have e : j = 8 := by omega
    subst e
    have h8 : (8 : Int32) ≤ nI 8 := nI_le (a := 8) (b := 8) (by omega) (by omega)
    exact br_t h8 ⟨ps_two, br_c (fun z => ⟨8, ps_yget6 hi hb (h1 z) 7 0 rfl 6 (by decide)⟩) h2⟩
  | succ d ih =>
    intro j hj
    have h8 : ¬ (8 : Int32) ≤ nI j := nI_ge (b := 8) (by omega) (by omega)
    have hg : ps_sum w j + b (nI i * 8 + nI j).toNatClampNeg = ps_sum w (j + 1) := by
      rw [ps_cl hi (by omega), hb j (by omega)]; rfl
    exact br_f h8 ⟨ps_in hi (by omega), nm_r hg (nm_r (nI_1 j) (ih (j + 1) (by omega)))⟩
end
section
/-- equal capacities and counts, at most 8; every stored word is below 256 and the reference's cells hold its bits -/
def i_Rel (_ : Nat) (u : SX) (v : SY) : Prop := ∃ (c m : Nat) (a b : Nat → Int32), u = (nI c, nI m, a) ∧ v = (nI c, nI m, b) ∧ c ≤ 8 ∧ m ≤ c ∧ ps_H m a b
theorem i_up {k : Nat} {u : SX} {v : SY} (h : i_Rel k u v) : i_Rel (k + 3) u v := h
theorem ps_R0 (k c : Nat) (hc : c ≤ 8) : i_Rel k (nI c, 0, fun _ => 0) (nI c, 0, fun _ => 0) :=
  ⟨c, 0, _, _, rfl, rfl, hc, Nat.zero_le c, fun i hi => absurd hi (Nat.not_lt_zero i)⟩
theorem i_vc0 (k0 : Int32) : wpX_init (fun u => wpY_init (fun v => i_Rel 1 u v) k0) k0 := by
  by_cases h0 : 0 ≤ k0
  · by_cases h8 : k0 ≤ 8
    · obtain ⟨c, hc, rfl⟩ := nI_of2 (x := k0) (M := 8) (n := 8) (by decide) (Int32.not_lt.mpr h0) h8
      exact br_t h0 (br_t h8 (br_t h0 (br_t h8 (ps_R0 1 c hc))))
    · exact br_t h0 (br_f h8 (br_t h0 (br_f h8 (ps_R0 1 8 (Nat.le_refl 8)))))
  · have h8 : (0 : Int32) ≤ 8 := by decide
    exact br_f h0 (br_t h8 (br_f h0 (br_t h8 (ps_R0 1 0 (Nat.zero_le 8)))))
theorem i_vc_size {k : Nat} {u : SX} {v : SY} (I : i_Rel k u v) (hk : k + 3 ≤ 1537) : wpX_size (fun r => wpY_size (fun r' => r' = r ∧ i_Rel (k + 3) u v) v) u := by
  obtain ⟨c, m, a, b, rfl, rfl, hc, hm, H⟩ := I
  exact And.intro rfl ⟨c, m, a, b, rfl, rfl, hc, hm, H⟩
theorem i_vc_put {k : Nat} {u : SX} {v : SY} (I : i_Rel k u v) (hk : k + 3 ≤ 1537) (v1 : Int32) : wpX_put (fun r u' => wpY_put (fun r' v' => r' = r ∧ i_Rel (k + 3) u' v') v v1) u v1 := by
  obtain ⟨c, m, a, b, rfl, rfl, hc, hm, H⟩ := I
  have R : i_Rel (k + 3) (nI c, nI m, a) (nI c, nI m, b) := ⟨c, m, a, b, rfl, rfl, hc, hm, H⟩
  by_cases h0 : v1 < 0
  · exact br_t h0 (br_t h0 ⟨rfl, R⟩)
  · by_cases h1 : v1 ≤ 127
    · by_cases h2 : nI m < nI c
      · obtain ⟨w, hw, rfl⟩ := nI_of2 (x := v1) (M := 127) (n := 127) (by decide) h0 h1
        have hmc : m < c := (nI_ltI (by omega) (by omega)).mp h2
        have hcl : (nI m).toNatClampNeg = m := nI_clamp (by omega)
        refine br_f h0 (br_t h1 (br_t h2 ⟨8, ps_xput (vp_in_nI (by omega) (by omega)) ?_ 7 0 rfl⟩))
        refine br_f h0 (br_t h1 (br_t h2 ⟨8, ps_yput (w := w) (m := m) (b := b) (by omega) (by omega) ?_ 7 0 rfl (nI w) b (by rw [Nat.pow_zero, Nat.div_one]) (fun _ _ => rfl) (fun i hi => absurd hi (Nat.not_lt_zero i))⟩))
        intro b' k1 k2 k3
        refine ⟨rfl, c, m + 1, _, _, ?_, ?_, hc, hmc, ps_put (by omega) H k1 k2 k3⟩
        · rw [hcl, nI_1]
        · rw [nI_1]
      · exact br_f h0 (br_t h1 (br_f h2 (br_f h0 (br_t h1 (br_f h2 ⟨rfl, R⟩)))))
    · exact br_f h0 (br_f h1 (br_f h0 (br_f h1 ⟨rfl, R⟩)))
theorem i_vc_flip {k : Nat} {u : SX} {v : SY} (I : i_Rel k u v) (hk : k + 3 ≤ 1537) (v1 : Int32) (v2 : Int32) : wpX_flip (fun r u' => wpY_flip (fun r' v' => r' = r ∧ i_Rel (k + 3) u' v') v v1 v2) u v1 v2 := by
  obtain ⟨c, m, a, b, rfl, rfl, hc, hm, H⟩ := I
  have R : i_Rel (k + 3) (nI c, nI m, a) (nI c, nI m, b) := ⟨c, m, a, b, rfl, rfl, hc, hm, H⟩
  by_cases h0 : v1 < 0
  · exact br_t h0 (br_t h0 ⟨rfl, R⟩)
  · by_cases h1 : nI m ≤ v1
    · exact br_f h0 (br_t h1 (br_f h0 (br_t h1 ⟨rfl, R⟩)))
    · by_cases h2 : v2 < 0
      · exact br_f h0 (br_f h1 (br_t h2 (br_f h0 (br_f h1 (br_t h2 ⟨rfl, R⟩)))))
      · by_cases h3 : v2 ≤ 7
        · obtain ⟨i, hi, rfl⟩ := nI_of h0
          obtain ⟨t, ht, rfl⟩ := nI_of2 (x := v2) (M := 7) (n := 7) (by decide) h2 h3
          rw [nI_leI (by omega) hi] at h1
          have him : i < m := by omega
          have hcl : (nI i).toNatClampNeg = i := nI_clamp hi
          have hcy : (nI i * 8 + nI t).toNatClampNeg = i * 8 + t := ps_cl (by omega) (by omega)
          have hx : vp_in (nI i) 8 := vp_in_nI (by omega) (by omega)
          have hy : vp_in (nI i * 8 + nI t) 64 := ps_in (by omega) (by omega)
          have h1' : ¬ nI m ≤ nI i := nI_ge him (by omega)
          refine br_f h0 (br_f h1' (br_f h2 (br_t h3 ⟨hx, hx, nm_e ?_⟩)))
          refine br_f h0 (br_f h1' (br_f h2 (br_t h3 ⟨hy, hy, nm_e ?_⟩)))
          rw [hcl, hcy]
          exact ⟨rfl, c, m, _, _, rfl, rfl, hc, hm, ps_flip (by omega) him H⟩
        · exact br_f h0 (br_f h1 (br_f h2 (br_f h3 (br_f h0 (br_f h1 (br_f h2 (br_f h3 ⟨rfl, R⟩)))))))
theorem i_vc_raw {k : Nat} {u : SX} {v : SY} (I : i_Rel k u v) (hk : k + 3 ≤ 1537) (v1 : Int32) : wpX_raw (fun r => wpY_raw (fun r' => r' = r ∧ i_Rel (k + 3) u v) v v1) u v1 := by
  obtain ⟨c, m, a, b, rfl, rfl, hc, hm, H⟩ := I
  have R : i_Rel (k + 3) (nI c, nI m, a) (nI c, nI m, b) := ⟨c, m, a, b, rfl, rfl, hc, hm, H⟩
  by_cases h0 : v1 < 0
  · exact br_t h0 (br_t h0 ⟨rfl, R⟩)
  · by_cases h1 : v1 < nI m
    · obtain ⟨i, hi, rfl⟩ := nI_of h0
      have him : i < m := (nI_ltI hi (by omega)).mp h1
      have hcl : (nI i).toNatClampNeg = i := nI_clamp hi
      obtain ⟨w, hw, ea, eb⟩ := H i him
      have er : ps_hor w 8 0 = a (nI i).toNatClampNeg := by rw [hcl, ea]; exact ps_raw w hw
      exact br_f h0 (br_t h1 ⟨vp_in_nI (by omega) (by omega), br_f h0 (br_t h1 ⟨9, ps_yraw (by omega) eb ⟨er, R⟩ 8 0 rfl 7 (by decide)⟩)⟩)
    · exact br_f h0 (br_f h1 (br_f h0 (br_f h1 ⟨rfl, R⟩)))
theorem i_vc_get {k : Nat} {u : SX} {v : SY} (I : i_Rel k u v) (hk : k + 3 ≤ 1537) (v1 : Int32) : wpX_get (fun r => wpY_get (fun r' => r' = r ∧ i_Rel (k + 3) u v) v v1) u v1 := by
  obtain ⟨c, m, a, b, rfl, rfl, hc, hm, H⟩ := I
  have R : i_Rel (k + 3) (nI c, nI m, a) (nI c, nI m, b) := ⟨c, m, a, b, rfl, rfl, hc, hm, H⟩
  by_cases h0 : v1 < 0
  · exact br_t h0 (br_t h0 ⟨rfl, R⟩)
  · by_cases h1 : v1 < nI m
    · obtain ⟨i, hi, rfl⟩ := nI_of h0
      have him : i < m := (nI_ltI hi (by omega)).mp h1
      have hcl : (nI i).toNatClampNeg = i := nI_clamp hi
      obtain ⟨w, hw, ea, eb⟩ := H i him
      have er : a (nI i).toNatClampNeg = nI w := by rw [hcl]; exact ea
      have ev := ps_even w hw
      refine br_f h0 (br_t h1 ⟨vp_in_nI (by omega) (by omega), nm_r er ⟨9, ps_xget (fun z => ?_) (fun z => ?_) 8 0 rfl⟩⟩)
      · exact br_f h0 (br_t h1 ⟨9, ps_yget (by omega) eb (fun _ => ⟨ps_low w hw, R⟩) (fun y => absurd (ev.mp z) y) 8 0 rfl⟩)
      · exact br_f h0 (br_t h1 ⟨9, ps_yget (by omega) eb (fun y => absurd (ev.mpr y) z) (fun _ => ⟨rfl, R⟩) 8 0 rfl⟩)
    · exact br_f h0 (br_f h1 (br_f h0 (br_f h1 ⟨rfl, R⟩)))
end
