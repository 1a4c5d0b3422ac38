section
/-! rows taken from the kit's starting text PURE-ROWS: stores and nI arithmetic -/
theorem pk_us {f : Nat → Int32} {k : Nat} {x : Int32} : upd f k x k = x := if_pos rfl
theorem pk_un {f : Nat → Int32} {k j : Nat} {x : Int32} (h : j ≠ k) : upd f k x j = f j := if_neg h
theorem pk_sub {a b : Nat} (h : b ≤ a) : nI a - nI b = nI (a - b) := by
  obtain ⟨c, rfl⟩ : ∃ c, a = c + b := ⟨a - b, by omega⟩
  rw [← nI_add, Int32.add_sub_cancel, Nat.add_sub_cancel]
theorem pk_mul (a b : Nat) : nI a * nI b = nI (a * b) := (Int32.ofNat_mul a b).symm
theorem pk_div {a d : Nat} (ha : a < 2 ^ 31) (h0 : 0 < d) (hd : d < 2 ^ 31) : nI a / nI d = nI (a / d) := by
  apply Int32.toInt_inj.mp
  rw [lg_idiv_nonneg (by rw [nI_toInt ha]; omega) (by rw [nI_toInt hd]; omega), nI_toInt ha, nI_toInt hd, nI_toInt (Nat.lt_of_le_of_lt (Nat.div_le_self a d) ha)]
  first | rfl | exact (Int.natCast_ediv _ _).symm
theorem pk_rem {a d : Nat} (ha : a < 2 ^ 31) (h0 : 0 < d) (hd : d < 2 ^ 31) : nI a - nI a / nI d * nI d = nI (a % d) := by
  rw [pk_div ha h0 hd, pk_mul, pk_sub (Nat.div_mul_le_self a d)]
  exact congrArg nI (by have := Nat.div_add_mod' a d; omega)
theorem pk_lt {x y : Int32} {A B : Prop} (a b : Nat) (f : a < b → A) (g : b ≤ a → B) (hx : x = nI a := by rfl) (hy : y = nI b := by rfl) (ha : a < 2 ^ 31 := by omega) (hb : b < 2 ^ 31 := by omega) : (x < y → A) ∧ (¬ x < y → B) := by
  subst hx hy
  rw [nI_ltI ha hb]
  exact ⟨f, fun z => g (by omega)⟩
theorem pk_in {x : Int32} (n N : Nat) (h : n < N) (hx : x = nI n := by rfl) (hN : N < 2 ^ 31 := by omega) : vp_in x N := by
  subst hx
  exact vp_in_nI h hN
theorem pk_cl {x : Int32} (n : Nat) (hx : x = nI n := by rfl) (h : n < 2 ^ 31 := by omega) : x.toNatClampNeg = n := by
  subst hx
  exact nI_clamp h
end
section
/-! the pure picture: the places of the ring, and the two sums -/
/-- the place in a ring of w cells, with its head at h, of the i-th oldest byte -/
def rs_ix (w h i : Nat) : Nat := if h + i < w then h + i else h + i - w
/-- the head behind h -/
def rs_nx (w h : Nat) : Nat := if h + 1 < w then h + 1 else 0
theorem rs_ix_0 {w h : Nat} (hh : h < w) : rs_ix w h 0 = h := by
  unfold rs_ix; split <;> omega
theorem rs_ix_lt {w h i : Nat} (hh : h < w) (hi : i < w) : rs_ix w h i < w := by
  unfold rs_ix; split <;> omega
theorem rs_ix_ne {w h i j : Nat} (hh : h < w) (hi : i < w) (hj : j < w) (d : i ≠ j) : rs_ix w h i ≠ rs_ix w h j := by
  unfold rs_ix; split <;> split <;> omega
theorem rs_ix_s1 {w h i : Nat} (hh : h < w) (hi : i < w) (q : rs_ix w h i + 1 < w) : rs_ix w h i + 1 = rs_ix w h (i + 1) := by
  unfold rs_ix at q ⊢; split at q <;> split <;> split <;> omega
theorem rs_ix_s2 {w h i : Nat} (hh : h < w) (hi : i < w) (q : w ≤ rs_ix w h i + 1) : rs_ix w h (i + 1) = 0 := by
  unfold rs_ix at q ⊢; split at q <;> split <;> omega
theorem rs_nx_lt {w h : Nat} (hh : h < w) : rs_nx w h < w := by
  unfold rs_nx; split <;> omega
theorem rs_rot {w h i : Nat} (hh : h < w) (hi : i + 1 < w) : rs_ix w (rs_nx w h) i = rs_ix w h (i + 1) := by
  unfold rs_nx rs_ix; split <;> split <;> split <;> omega
theorem rs_rote {w h : Nat} (hh : h < w) : rs_ix w (rs_nx w h) (w - 1) = h := by
  unfold rs_nx rs_ix; split <;> split <;> omega
/-- the sum of the first i bytes -/
def rs_s (g : Nat → Nat) : Nat → Nat
  | 0 => 0
  | i + 1 => rs_s g i + g i
/-- the weighted sum of the first i bytes out of c -/
def rs_t (g : Nat → Nat) (c : Nat) : Nat → Nat
  | 0 => 0
  | i + 1 => rs_t g c i + g i * (c - i)
theorem rs_s_le {g : Nat → Nat} {c : Nat} (hg : ∀ j, j < c → g j ≤ 255) : ∀ i, i ≤ c → rs_s g i ≤ 255 * i := by
  intro i
  induction i with
  | zero => intro _; exact Nat.le_refl _
  | succ i ih =>
    intro hi
    have h1 := ih (by omega)
    have h2 := hg i (by omega)
    show rs_s g i + g i ≤ _
    omega
theorem rs_t_le {g : Nat → Nat} {c : Nat} (hc : c ≤ 16) (hg : ∀ j, j < c → g j ≤ 255) : ∀ i, i ≤ c → rs_t g c i ≤ 4080 * i := by
  intro i
  induction i with
  | zero => intro _; exact Nat.le_refl _
  | succ i ih =>
    intro hi
    have h1 := ih (by omega)
    have h2 : g i * (c - i) ≤ 255 * 16 := Nat.mul_le_mul (hg i (by omega)) (by omega)
    show rs_t g c i + g i * (c - i) ≤ _
    omega
/-- the answer of value() -/
def rs_v (g : Nat → Nat) (c : Nat) : Int32 := nI (rs_t g c c % 251) * 256 + nI (rs_s g c % 251)
theorem rs_v0 (g : Nat → Nat) : rs_v g 0 = 0 := by
  show nI (0 % 251) * 256 + nI (0 % 251) = 0
  decide +kernel
end
section
/-! value(): both loops give rs_v -/
section
variable {w h c : Nat} {g : Nat → Nat} {B H : Nat → Int32}
theorem rs_Xv (hw : w ≤ 16) (hc : c ≤ w) (hh : h < w) (hg : ∀ j, j < c → g j ≤ 255) (hB : ∀ j, j < c → B (rs_ix w h j) = nI (g j))
    (post : Int32 → Prop) (hp : post (rs_v g c)) : ∀ d i : Nat, i + d = c →
    wX_value_21 post (nI w) (nI h) (nI c) B (d + 1) (nI (rs_s g i)) (nI (rs_t g c i)) (nI (rs_ix w h i)) (nI i) := by
  intro d
  induction d with
  | zero =>
    intro i hi
    have ei : i = c := by omega
    subst ei
    have h1 := rs_s_le hg i (Nat.le_refl i)
    have h2 := rs_t_le (by omega) hg i (Nat.le_refl i)
    exact br_t (nI_le (Nat.le_refl i) (by omega)) ⟨by decide, nm_r (pk_rem (d := 251) (by omega) (by decide) (by decide))
      ⟨by decide, nm_r (pk_rem (d := 251) (by omega) (by decide) (by decide)) hp⟩⟩
  | succ d ih =>
    intro i hi
    have hx := rs_ix_lt (i := i) hh (by omega)
    have e1 : B (nI (rs_ix w h i)).toNatClampNeg = nI (g i) := by
      rw [nI_clamp (by omega)]; exact hB i (by omega)
    have e2 : nI (rs_t g c i) + nI (g i) * (nI c - nI i) = nI (rs_t g c (i + 1)) := by
      rw [pk_sub (by omega), pk_mul, nI_add]; rfl
    have K := ih (i + 1) (by omega)
    refine br_f (nI_ge (by omega) (by omega)) ⟨vp_in_nI (by omega) (by decide), nm_r e1 (nm_r (nI_add _ _) (nm_r e2 (nm_r (nI_1 _) ?_)))⟩
    refine pk_lt (rs_ix w h i + 1) w (fun q => nm_r (nI_1 i) ?_) (fun q => nm_r (nI_1 i) ?_)
    · rw [rs_ix_s1 hh (by omega) q]; exact K
    · rw [rs_ix_s2 hh (by omega) q] at K; exact K
theorem rs_Yv (hw : w ≤ 16) (hc : c ≤ w) (hg : ∀ j, j < c → g j ≤ 255) (hH : ∀ j, j < c → H j = nI (g j))
    (post : Int32 → Prop) (hp : post (rs_v g c)) : ∀ d i : Nat, i + d = c →
    wY_value_6 post (nI c) (nI w) H (d + 1) (nI (rs_s g i % 251)) (nI (rs_t g c i % 251)) (nI i) := by
  intro d
  induction d with
  | zero =>
    intro i hi
    have ei : i = c := by omega
    subst ei
    exact br_t (nI_le (Nat.le_refl i) (by omega)) hp
  | succ d ih =>
    intro i hi
    have b1 : g i ≤ 255 := hg i (by omega)
    have b2 : g i * (c - i) ≤ 255 * 16 := Nat.mul_le_mul b1 (by omega)
    have b3 : rs_s g i % 251 < 251 := Nat.mod_lt _ (by decide)
    have b4 : rs_t g c i % 251 < 251 := Nat.mod_lt _ (by decide)
    have e0 : H (nI i).toNatClampNeg = nI (g i) := by
      rw [nI_clamp (by omega)]; exact hH i (by omega)
    have e1 : nI (rs_s g i % 251) + nI (g i) - (nI (rs_s g i % 251) + nI (g i)) / 251 * 251 = nI (rs_s g (i + 1) % 251) := by
      rw [nI_add]
      refine (pk_rem (d := 251) (by omega) (by decide) (by decide)).trans (congrArg nI ?_)
      exact Nat.mod_add_mod _ _ _
    have e2 : nI (rs_t g c i % 251) + nI (g i) * (nI c - nI i) - (nI (rs_t g c i % 251) + nI (g i) * (nI c - nI i)) / 251 * 251 = nI (rs_t g c (i + 1) % 251) := by
      rw [pk_sub (by omega), pk_mul, nI_add]
      refine (pk_rem (d := 251) (by omega) (by decide) (by decide)).trans (congrArg nI ?_)
      exact Nat.mod_add_mod _ _ _
    have hi2 : vp_in (nI i) 16 := vp_in_nI (by omega) (by decide)
    refine br_f (nI_ge (by omega) (by omega)) ⟨hi2, by decide, nm_r (by rw [e0]; exact e1) ⟨hi2, by decide, nm_r (by rw [e0]; exact e2) (nm_r (nI_1 i) (ih (i + 1) (by omega)))⟩⟩
end
end
section
/-! roll(b): each side, for a byte b, growing and full -/
section
variable {w h c b : Nat} {B H : Nat → Int32}
theorem rs_Xgrow (hw : w ≤ 16) (hc : c < w) (hh : h < w) (hb : b ≤ 255) (post : Int32 → SX → Prop)
    (hp : post 256 (nI w, nI h, nI (c + 1), upd B (rs_ix w h c) (nI b))) : wpX_roll post (nI w, nI h, nI c, B) (nI b) := by
  have K : ∀ x : Int32, x = nI (rs_ix w h c) → wX_roll_62 post (nI b) x (nI w) (nI h) (nI c) B := by
    intro x ex
    subst ex
    have hx := rs_ix_lt (i := c) hh hc
    exact ⟨vp_in_nI (by omega) (by decide), nm_r (congrArg (fun z => upd B z (nI b)) (nI_clamp (by omega))) (nm_r (nI_1 c) hp)⟩
  refine br_f (nI_pos (by omega)) (br_t (nI_le (b := 255) hb (by decide)) (br_f (nI_ne0 (by omega) (by omega)) (br_f (nI_ge hc (by omega)) (nm_r (nI_add h c) ?_))))
  refine pk_lt (h + c) w (fun q => K _ ?_) (fun q => nm_r (pk_sub q) (K _ ?_))
  · exact congrArg nI (if_pos q).symm
  · exact congrArg nI (if_neg (by omega)).symm
theorem rs_Xfull (hw : w ≤ 16) (hh : h < w) (hb : b ≤ 255) (post : Int32 → SX → Prop)
    (hp : post (B h) (nI w, nI (rs_nx w h), nI w, upd B h (nI b))) : wpX_roll post (nI w, nI h, nI w, B) (nI b) := by
  have eh : (nI h).toNatClampNeg = h := nI_clamp (by omega)
  have hi : vp_in (nI h) 16 := vp_in_nI (by omega) (by decide)
  refine br_f (nI_pos (by omega)) (br_t (nI_le (b := 255) hb (by decide)) (br_f (nI_ne0 (by omega) (by omega)) (br_t (nI_le (Nat.le_refl w) (by omega))
    ⟨hi, nm_r (congrArg B eh) ⟨hi, nm_r (congrArg (fun z => upd B z (nI b)) eh) (nm_r (nI_1 h) ?_)⟩⟩)))
  refine pk_lt (h + 1) w (fun q => ?_) (fun q => ?_)
  · have e : rs_nx w h = h + 1 := if_pos q
    rw [e] at hp; exact hp
  · have e : rs_nx w h = 0 := if_neg (by omega)
    rw [e] at hp; exact hp
theorem rs_Ygrow (hw : w ≤ 16) (hc : c < w) (hb : b ≤ 255) (post : Int32 → SY → Prop)
    (hp : post 256 (nI (c + 1), nI w, upd H c (nI b))) : wpY_roll post (nI c, nI w, H) (nI b) := by
  exact br_f (nI_pos (by omega)) (br_t (nI_le (b := 255) hb (by decide)) (br_f (nI_ne0 (by omega) (by omega)) (br_f (nI_ge hc (by omega))
    ⟨vp_in_nI (by omega) (by decide), nm_r (congrArg (fun z => upd H z (nI b)) (nI_clamp (by omega))) (nm_r (nI_1 c) hp)⟩)))
theorem rs_Ysh (x o : Int32) (hw : w ≤ 16) (post : Int32 → SY → Prop)
    (hp : ∀ A : Nat → Int32, (∀ j, j + 1 < w → A j = H (j + 1)) → A (w - 1) = x → post o (nI w, nI w, A)) :
    ∀ (d i : Nat) (A : Nat → Int32), 1 ≤ i → i + d = w → (∀ j, j + 1 < i → A j = H (j + 1)) → (∀ j, i ≤ j + 1 → A j = H j) →
    wY_roll_70 post x o (nI w) (nI w) (d + 1) (nI i) A := by
  intro d
  induction d with
  | zero =>
    intro i A h1 hi hlo hhi
    have ei : i = w := by omega
    subst ei
    have e : nI i - 1 = nI (i - 1) := pk_sub (b := 1) h1
    refine br_t (nI_le (Nat.le_refl i) (by omega)) ⟨pk_in (i - 1) 16 (by omega) e, nm_r (congrArg (fun z => upd A z x) (pk_cl (i - 1) e)) (hp _ (fun j hj => ?_) pk_us)⟩
    exact (pk_un (by omega)).trans (hlo j hj)
  | succ d ih =>
    intro i A h1 hi hlo hhi
    have e : nI i - 1 = nI (i - 1) := pk_sub (b := 1) h1
    have ea : upd A (nI i - 1).toNatClampNeg (A (nI i).toNatClampNeg) = upd A (i - 1) (A i) := by
      rw [e, nI_clamp (by omega), nI_clamp (by omega)]
    refine br_f (nI_ge (by omega) (by omega)) ⟨vp_in_nI (by omega) (by decide), pk_in (i - 1) 16 (by omega) e, nm_r ea (nm_r (nI_1 i) (ih (i + 1) _ (by omega) (by omega) (fun j hj => ?_) (fun j hj => ?_)))⟩
    · by_cases q : j = i - 1
      · subst q
        rw [pk_us, show i - 1 + 1 = i from by omega]
        exact hhi i (by omega)
      · exact (pk_un q).trans (hlo j (by omega))
    · exact (pk_un (by omega)).trans (hhi j (by omega))
theorem rs_Yfull (hw : w ≤ 16) (h0 : 0 < w) (hb : b ≤ 255) (post : Int32 → SY → Prop)
    (hp : ∀ A : Nat → Int32, (∀ j, j + 1 < w → A j = H (j + 1)) → A (w - 1) = nI b → post (H 0) (nI w, nI w, A)) :
    wpY_roll post (nI w, nI w, H) (nI b) := by
  exact br_f (nI_pos (by omega)) (br_t (nI_le (b := 255) hb (by decide)) (br_f (nI_ne0 h0 (by omega)) (br_t (nI_le (Nat.le_refl w) (by omega))
    (nm_e ⟨w - 1 + 1, rs_Ysh (nI b) (H 0) hw post hp (w - 1) 1 H (Nat.le_refl 1) (by omega) (fun j hj => absurd hj (by omega)) (fun j _ => rfl)⟩))))
end
end
section
/-! the relation and the owed statements -/
/-- w the window, h the ring's head, c the number of held bytes, g the held bytes from the oldest on: the ring holds them from its head on, the reference from 0 on -/
def i_Rel (_ : Nat) (u : SX) (v : SY) : Prop := ∃ (w h c : Nat) (g : Nat → Nat) (B H : Nat → Int32),
  u = (nI w, nI h, nI c, B) ∧ v = (nI c, nI w, H) ∧ w ≤ 16 ∧ c ≤ w ∧ (h < w ∨ h = 0) ∧
  (∀ j, j < c → g j ≤ 255) ∧ (∀ j, j < c → B (rs_ix w h j) = nI (g j)) ∧ (∀ j, j < c → H j = nI (g j))
theorem i_up {k : Nat} {u : SX} {v : SY} (h : i_Rel k u v) : i_Rel (k + 2) u v := h
theorem rs_new {k : Nat} {x : Int32} {w : Nat} (e : x = nI w) (hw : w ≤ 16) : i_Rel k (x, 0, 0, fun _ => 0) (0, x, fun _ => 0) := by
  subst e
  exact ⟨w, 0, 0, fun _ => 0, _, _, rfl, rfl, hw, by omega, Or.inr rfl, fun j hj => absurd hj (by omega), fun j hj => absurd hj (by omega), fun j hj => absurd hj (by omega)⟩
theorem i_vc0 (k0 : Int32) : wpX_init (fun u => wpY_init (fun v => i_Rel 1 u v) k0) k0 := by
  by_cases h0 : 0 ≤ k0
  · by_cases h1 : k0 ≤ 16
    · obtain ⟨w, hw, e⟩ := nI_of2 (M := 16) (n := 16) (by decide) (Int32.not_lt.mpr h0) h1
      exact br_t h0 (br_t h1 (br_t h0 (br_t h1 (rs_new (k := 1) e hw))))
    · exact br_t h0 (br_f h1 (br_t h0 (br_f h1 (rs_new (k := 1) (w := 16) rfl (by decide)))))
  · exact br_f h0 (br_t (by decide) (br_f h0 (rs_new (k := 1) (w := 0) rfl (by decide))))
theorem i_vc_roll {k : Nat} {u : SX} {v : SY} (I : i_Rel k u v) (hk : k + 2 ≤ 1025) (v1 : Int32) : wpX_roll (fun r u' => wpY_roll (fun r' v' => r' = r ∧ i_Rel (k + 2) u' v') v v1) u v1 := by
  have I2 : i_Rel (k + 2) u v := i_up I
  obtain ⟨w, h, c, g, B, H, rfl, rfl, hw, hc, hh, hg, hB, hH⟩ := I
  by_cases n0 : v1 < 0
  · exact br_t n0 (br_t n0 ⟨rfl, I2⟩)
  by_cases n1 : v1 ≤ 255
  · by_cases z : w = 0
    · have e : nI w = 0 := by rw [z]; exact nI_0
      exact br_f n0 (br_t n1 (br_t e (br_f n0 (br_t n1 (br_t e ⟨rfl, I2⟩)))))
    · have hlt : h < w := by omega
      obtain ⟨b, hb, rfl⟩ := nI_of2 (M := 255) (n := 255) (by decide) n0 n1
      by_cases q : c < w
      · refine rs_Xgrow hw q hlt hb _ (rs_Ygrow hw q hb _ ⟨rfl, w, h, c + 1, (fun j => if j = c then b else g j), _, _, rfl, rfl, hw, q, hh, ?_, ?_, ?_⟩)
        · intro j hj
          by_cases e : j = c
          · show (if j = c then b else g j) ≤ 255
            rw [if_pos e]; exact hb
          · show (if j = c then b else g j) ≤ 255
            rw [if_neg e]; exact hg j (by omega)
        · intro j hj
          show upd B (rs_ix w h c) (nI b) (rs_ix w h j) = nI (if j = c then b else g j)
          by_cases e : j = c
          · rw [if_pos e, e, pk_us]
          · rw [if_neg e, pk_un (rs_ix_ne hlt (by omega) q e)]; exact hB j (by omega)
        · intro j hj
          show upd H c (nI b) j = nI (if j = c then b else g j)
          by_cases e : j = c
          · rw [if_pos e, e, pk_us]
          · rw [if_neg e, pk_un e]; exact hH j (by omega)
      · have ec : c = w := by omega
        subst ec
        have e0 : H 0 = B h := by
          have := hB 0 (by omega)
          rw [rs_ix_0 hlt] at this
          rw [this]; exact hH 0 (by omega)
        refine rs_Xfull hw hlt hb _ (rs_Yfull hw (by omega) hb _ (fun A hA hA1 => ⟨e0, c, rs_nx c h, c, (fun j => if j + 1 < c then g (j + 1) else b), _, A, rfl, rfl, hw, Nat.le_refl c, Or.inl (rs_nx_lt hlt), ?_, ?_, ?_⟩))
        · intro j hj
          show (if j + 1 < c then g (j + 1) else b) ≤ 255
          by_cases e : j + 1 < c
          · rw [if_pos e]; exact hg _ e
          · rw [if_neg e]; exact hb
        · intro j hj
          show upd B h (nI b) (rs_ix c (rs_nx c h) j) = nI (if j + 1 < c then g (j + 1) else b)
          by_cases e : j + 1 < c
          · have ne : rs_ix c h (j + 1) ≠ h := fun x => rs_ix_ne (i := j + 1) (j := 0) hlt e (by omega) (by omega) (x.trans (rs_ix_0 hlt).symm)
            rw [if_pos e, rs_rot hlt e, pk_un ne]; exact hB _ e
          · have ej : j = c - 1 := by omega
            rw [if_neg e, ej, rs_rote hlt, pk_us]
        · intro j hj
          show A j = nI (if j + 1 < c then g (j + 1) else b)
          by_cases e : j + 1 < c
          · rw [if_pos e, hA j e]; exact hH _ e
          · have ej : j = c - 1 := by omega
            rw [if_neg e, ej]; exact hA1
  · exact br_f n0 (br_f n1 (br_f n0 (br_f n1 ⟨rfl, I2⟩)))
theorem i_vc_value {k : Nat} {u : SX} {v : SY} (I : i_Rel k u v) (hk : k + 2 ≤ 1025) : wpX_value (fun r => wpY_value (fun r' => r' = r ∧ i_Rel (k + 2) u v) v) u := by
  have I2 : i_Rel (k + 2) u v := i_up I
  obtain ⟨w, h, c, g, B, H, rfl, rfl, hw, hc, hh, hg, hB, hH⟩ := I
  have Y : ∀ post : Int32 → Prop, post (rs_v g c) → wpY_value post (nI c, nI w, H) := fun post hp =>
    ⟨c + 1, rs_Yv hw hc hg hH post hp c 0 (by omega)⟩
  by_cases z : c = 0
  · subst z
    exact br_t nI_0 (Y _ ⟨rs_v0 g, I2⟩)
  · have hlt : h < w := by omega
    have K := rs_Xv hw hc hlt hg hB (fun r => wpY_value (fun r' => r' = r ∧ i_Rel (k + 2) (nI w, nI h, nI c, B) (nI c, nI w, H)) (nI c, nI w, H)) (Y _ ⟨rfl, I2⟩) c 0 (by omega)
    rw [rs_ix_0 hlt] at K
    exact br_f (nI_ne0 (by omega) (by omega)) ⟨c + 1, K⟩
theorem i_vc_filled {k : Nat} {u : SX} {v : SY} (I : i_Rel k u v) (hk : k + 2 ≤ 1025) : wpX_filled (fun r => wpY_filled (fun r' => r' = r ∧ i_Rel (k + 2) u v) v) u := by
  have I2 : i_Rel (k + 2) u v := i_up I
  obtain ⟨w, h, c, g, B, H, rfl, rfl, hw, hc, hh, hg, hB, hH⟩ := I
  exact And.intro rfl I2
theorem i_vc_window {k : Nat} {u : SX} {v : SY} (I : i_Rel k u v) (hk : k + 2 ≤ 1025) : wpX_window (fun r => wpY_window (fun r' => r' = r ∧ i_Rel (k + 2) u v) v) u := by
  have I2 : i_Rel (k + 2) u v := i_up I
  obtain ⟨w, h, c, g, B, H, rfl, rfl, hw, hc, hh, hg, hB, hH⟩ := I
  exact And.intro rfl I2
theorem i_vc_reset {k : Nat} {u : SX} {v : SY} (I : i_Rel k u v) (hk : k + 2 ≤ 1025) : wpX_reset (fun u' => wpY_reset (fun v' => i_Rel (k + 2) u' v') v) u := by
  obtain ⟨w, h, c, g, B, H, rfl, rfl, hw, hc, hh, hg, hB, hH⟩ := I
  exact ⟨w, 0, 0, g, B, H, rfl, rfl, hw, by omega, Or.inr rfl, fun j hj => absurd hj (by omega), fun j hj => absurd hj (by omega), fun j hj => absurd hj (by omega)⟩
end
