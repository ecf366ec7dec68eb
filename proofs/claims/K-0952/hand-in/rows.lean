section
theorem pk_mul (a b : Nat) : nI a * nI b = nI (a * b) := (Int32.ofNat_mul a b).symm
theorem pk_m1 (n : Nat) : nI (n + 1) + (-1) = nI n := by
  rw [← nI_1, Int32.add_assoc, show (1 : Int32) + (-1) = 0 from rfl, Int32.add_zero]
theorem pk_le {x y : Int32} {A B : Prop} (a b : Nat) (f : a ≤ b → A) (g : b < a → B) (hx : x = nI a := by rfl) (hy : y = nI b := by rfl) (ha : a < 2 ^ 31 := by omega) (hb : b < 2 ^ 31 := by omega) : (x ≤ y → A) ∧ (¬ x ≤ y → B) := by
  subst hx hy
  rw [nI_leI ha hb]
  exact ⟨f, fun z => g (by omega)⟩
theorem pk_lt {x y : Int32} {A B : Prop} (a b : Nat) (f : a < b → A) (g : b ≤ a → B) (hx : x = nI a := by rfl) (hy : y = nI b := by rfl) (ha : a < 2 ^ 31 := by omega) (hb : b < 2 ^ 31 := by omega) : (x < y → A) ∧ (¬ x < y → B) := by
  subst hx hy
  rw [nI_ltI ha hb]
  exact ⟨f, fun z => g (by omega)⟩
theorem pk_eq {x y : Int32} {A B : Prop} (a b : Nat) (f : a = b → A) (g : a ≠ b → B) (hx : x = nI a := by rfl) (hy : y = nI b := by rfl) (ha : a < 2 ^ 31 := by omega) (hb : b < 2 ^ 31 := by omega) : (x = y → A) ∧ (¬ x = y → B) := by
  subst hx hy
  rw [nI_eq ha hb]
  exact ⟨f, g⟩
theorem pk_tn {n : Nat} (h : n < 2 ^ 32) : (nI n).toBitVec.toNat = n := Nat.mod_eq_of_lt h
theorem pk_charN {q : Nat} (hq : q < 65536) : narrow .char (.int (nI q)) = .int (nI q) ∧ fits .char (.int (nI q)) = true := by
  constructor
  · have e : (nI q).toUInt32.toUInt16.toUInt32.toInt32 = nI q := by
      apply Int32.toBitVec_inj.mp
      apply BitVec.eq_of_toNat_eq
      show (nI q).toUInt32.toUInt16.toUInt32.toNat = q % 2 ^ 32
      rw [UInt16.toNat_toUInt32, UInt32.toNat_toUInt16, show (nI q).toUInt32.toNat = q % 2 ^ 32 from rfl]
      omega
    exact congrArg Value.int e
  · have a : (0 : Int32) ≤ nI q := nI_pos' (by omega)
    have b : nI q ≤ 65535 := nI_le (b := 65535) (by omega) (by decide)
    show (decide ((0 : Int32) ≤ nI q) && decide (nI q ≤ 65535)) = true
    rw [decide_eq_true a, decide_eq_true b]
    rfl
theorem pk_char (x : Int32) : (x.toUInt32 % 65536).toInt32 = nI (x.toBitVec.toNat % 65536) := by
  apply Int32.toBitVec_inj.mp
  apply BitVec.eq_of_toNat_eq
  rw [pk_tn (by omega)]
  show (x.toUInt32 % 65536).toNat = _
  rw [UInt32.toNat_mod]
  rfl
end
section
/-- the array whose cells hold the numbers t -/
def mc_A (t : Nat → Nat) : Nat → Int32 := fun j => nI (t j)
def mc_u (t : Nat → Nat) (k x : Nat) : Nat → Nat := fun j => if j = k then x else t j
def mc_R (t : Nat → Nat) : Prop := ∀ j, t j < 65536
def mc_S (n : Nat) (t : Nat → Nat) : Prop := ∀ p q, p < q → q < n → t p < t q
/-- at most four carets, each a char, strictly increasing -/
def mc_Ok (n : Nat) (t : Nat → Nat) : Prop := n ≤ 4 ∧ mc_R t ∧ mc_S n t
theorem mc_us {t : Nat → Nat} {k x : Nat} : mc_u t k x k = x := if_pos rfl
theorem mc_un {t : Nat → Nat} {k x j : Nat} (h : j ≠ k) : mc_u t k x j = t j := if_neg h
theorem mc_uR {t : Nat → Nat} {k x : Nat} (h : mc_R t) (hx : x < 65536) : mc_R (mc_u t k x) := by
  intro j
  by_cases e : j = k
  · rw [e, mc_us]; exact hx
  · rw [mc_un e]; exact h j
theorem mc_nar {x : Nat} (h : x < 65536) : vp_nar .char (nI x) = nI x := Value.int.inj (pk_charN h).1
theorem mc_put (t : Nat → Nat) (k : Nat) {x : Nat} (hk : k < 4) (h : x < 65536) : upd (mc_A t) (nI k).toNatClampNeg (vp_nar .char (nI x)) = mc_A (mc_u t k x) := by
  rw [nI_clamp (by omega), mc_nar h]
  funext j
  show (if j = k then nI x else nI (t j)) = nI (if j = k then x else t j)
  by_cases e : j = k
  · rw [if_pos e, if_pos e]
  · rw [if_neg e, if_neg e]
theorem mc_get (t : Nat → Nat) {k : Nat} (hk : k < 4) : mc_A t (nI k).toNatClampNeg = nI (t k) := by
  rw [nI_clamp (by omega)]; rfl
theorem mc_ch {x : Nat} (h : x < 65536) : ((nI x).toUInt32 % 65536).toInt32 = nI x := by
  rw [pk_char, pk_tn (by omega), Nat.mod_eq_of_lt h]
theorem mc_l32 {y : Nat} (h : y < 65536) : ((lN y).toInt32.toUInt32 % 65536).toInt32 = nI y := by
  rw [lN_i, mc_ch h]
/-- a number brought into 0 .. 65535 -/
def mc_cl (s : Int) : Nat := if s < 0 then 0 else if 65535 < s then 65535 else s.toNat
theorem mc_cl_lt (s : Int) : mc_cl s < 65536 := by
  unfold mc_cl
  repeat' split
  all_goals omega
theorem mc_cl_mono {a b : Int} (h : a ≤ b) : mc_cl a ≤ mc_cl b := by
  unfold mc_cl
  repeat' split
  all_goals omega
theorem mc_cl_neg {s : Int} (h : s < 0) : mc_cl s = 0 := if_pos h
theorem mc_cl_big {s : Int} (h : 65535 < s) : mc_cl s = 65535 := by
  unfold mc_cl
  rw [if_neg (by omega), if_pos h]
theorem mc_cl_mid {s : Int} (h : 0 ≤ s) (h1 : s ≤ 65535) : mc_cl s = s.toNat := by
  unfold mc_cl
  rw [if_neg (by omega), if_neg (by omega)]
theorem mc_clamp {B : Int64 → Prop} (x : Int64) (s : Int) (hs : x.toInt = s) (hB : ∀ y : Int64, (y.toInt32.toUInt32 % 65536).toInt32 = nI (mc_cl s) → B y) : (0 ≤ x → ((x ≤ 65535 → B x) ∧ (¬ x ≤ 65535 → B 65535))) ∧ (¬ 0 ≤ x → (((0 : Int64) ≤ 65535 → B 0) ∧ (¬ (0 : Int64) ≤ 65535 → B 65535))) := by
  have z0 : (0 : Int64).toInt = 0 := by decide
  have z1 : (65535 : Int64).toInt = 65535 := by decide
  refine ⟨fun h0 => ⟨fun h1 => hB x ?_, fun h1 => hB _ ?_⟩, fun h0 => ⟨fun _ => hB _ ?_, fun h => absurd (by decide) h⟩⟩
  · rw [Int64.le_iff_toInt_le, hs, z0] at h0
    rw [Int64.le_iff_toInt_le, hs, z1] at h1
    have e : x = lN s.toNat := Int64.toInt_inj.mp (by rw [hs, lN_toInt (by omega)]; omega)
    rw [e, mc_cl_mid h0 h1]
    exact mc_l32 (by omega)
  · rw [Int64.le_iff_toInt_le, hs, z1] at h1
    rw [mc_cl_big (by omega)]
    exact mc_l32 (y := 65535) (by decide)
  · rw [Int64.le_iff_toInt_le, hs, z0] at h0
    rw [mc_cl_neg (by omega)]
    exact mc_l32 (y := 0) (by decide)
/-- a caret's new place: moved by d, and by s for itself and every caret before it -/
def mc_f (d : Int) (s : Nat) (i a : Nat) : Nat := mc_cl ((a : Int) + d + ((s * (i + 1) : Nat) : Int))
theorem mc_f_lt (d : Int) (s i a : Nat) : mc_f d s i a < 65536 := mc_cl_lt _
theorem mc_f_mono (d : Int) (s i j a b : Nat) (hi : i ≤ j) (ha : a ≤ b) : mc_f d s i a ≤ mc_f d s j b :=
  mc_cl_mono (Int.add_le_add (Int.add_le_add_right (Int.ofNat_le.mpr ha) d) (Int.ofNat_le.mpr (Nat.mul_le_mul_left s (Nat.add_le_add_right hi 1))))
theorem mc_add64 (a : Nat) (d : Int32) (b : Nat) (ha : a < 65536) (hb : b < 65536) : ((nI a).toInt64 + d.toInt64 + (nI b).toInt64).toInt = (a : Int) + d.toInt + (b : Int) := by
  have l := d.le_toInt
  have r := d.toInt_lt
  have e1 : ((nI a).toInt64 + d.toInt64).toInt = (a : Int) + d.toInt := by
    rw [Int64.toInt_add, Int32.toInt_toInt64, Int32.toInt_toInt64, nI_toInt (by omega)]
    exact Int.bmod_eq_of_le (by omega) (by omega)
  rw [Int64.toInt_add, e1, Int32.toInt_toInt64, nI_toInt (by omega)]
  exact Int.bmod_eq_of_le (by omega) (by omega)
theorem mc_add64' (a : Nat) (d : Int32) (ha : a < 65536) : ((nI a).toInt64 + d.toInt64).toInt = (a : Int) + d.toInt := by
  have l := d.le_toInt
  have r := d.toInt_lt
  rw [Int64.toInt_add, Int32.toInt_toInt64, Int32.toInt_toInt64, nI_toInt (by omega)]
  exact Int.bmod_eq_of_le (by omega) (by omega)
/-- what a walk of the merging loop asks, at any fuel -/
def mc_Lp (n : Nat) (f : Nat → Nat → Nat) (V : (Int32 → SX → Prop) → Nat → Int32 → Int32 → (Nat → Int32) → Prop) : Prop :=
  ∀ (post : Int32 → SX → Prop) (k m i : Nat) (t : Nat → Nat), mc_R t → m ≤ i → i ≤ n →
    (i = n → post (nI m) (nI m, mc_A t)) →
    (i < n → (m = 0 ∨ t (m - 1) ≠ f i (t i)) → V post k (nI (m + 1)) (nI (i + 1)) (mc_A (mc_u t m (f i (t i))))) →
    (i < n → m ≠ 0 → t (m - 1) = f i (t i) → V post k (nI m) (nI (i + 1)) (mc_A t)) →
    V post (k + 1) (nI m) (nI i) (mc_A t)
/-- the merging loop has one outcome for every walk that asks so -/
theorem mc_run {n : Nat} {f : Nat → Nat → Nat} (fl : ∀ i a, f i a < 65536) (fm : ∀ i j a b, i ≤ j → a ≤ b → f i a ≤ f j b) : ∀ (e m i : Nat) (t : Nat → Nat), i + e = n → m ≤ i → mc_R t → (∀ p q, i ≤ p → p < q → q < n → t p < t q) → mc_S m t → (∀ p q, p < m → i ≤ q → q < n → t p ≤ f q (t q)) → ∃ (m' : Nat) (t' : Nat → Nat), m' ≤ n ∧ mc_R t' ∧ mc_S m' t' ∧ ∀ V, mc_Lp n f V → ∀ post, post (nI m') (nI m', mc_A t') → V post (e + 1) (nI m) (nI i) (mc_A t) := by
  intro e
  induction e with
  | zero =>
    intro m i t he hm hr h1 h2 h3
    exact ⟨m, t, by omega, hr, h2, fun V hV post hp => hV post 0 m i t hr hm (by omega) (fun _ => hp) (fun h => absurd h (by omega)) (fun h => absurd h (by omega))⟩
  | succ e ih =>
    intro m i t he hm hr h1 h2 h3
    by_cases c : m = 0 ∨ t (m - 1) ≠ f i (t i)
    · have s1 : ∀ p q, i + 1 ≤ p → p < q → q < n → mc_u t m (f i (t i)) p < mc_u t m (f i (t i)) q := by
        intro p q a1 a2 a3
        rw [mc_un (by omega), mc_un (by omega)]
        exact h1 p q (by omega) a2 a3
      have s2 : mc_S (m + 1) (mc_u t m (f i (t i))) := by
        intro p q a1 a2
        rw [mc_un (k := m) (j := p) (by omega)]
        by_cases eq : q = m
        · rw [eq, mc_us]
          have l1 := h3 p i (by omega) (Nat.le_refl i) (by omega)
          by_cases ep : p = m - 1
          · rw [ep] at l1 ⊢
            exact Nat.lt_of_le_of_ne l1 (c.elim (fun z => absurd z (by omega)) id)
          · exact Nat.lt_of_lt_of_le (h2 p (m - 1) (by omega) (by omega)) (h3 (m - 1) i (by omega) (Nat.le_refl i) (by omega))
        · rw [mc_un eq]
          exact h2 p q a1 (by omega)
      have s3 : ∀ p q, p < m + 1 → i + 1 ≤ q → q < n → mc_u t m (f i (t i)) p ≤ f q (mc_u t m (f i (t i)) q) := by
        intro p q a1 a2 a3
        rw [mc_un (k := m) (j := q) (by omega)]
        by_cases ep : p = m
        · rw [ep, mc_us]
          exact fm i q _ _ (by omega) (Nat.le_of_lt (h1 i q (Nat.le_refl i) (by omega) a3))
        · rw [mc_un ep]
          exact h3 p q (by omega) (by omega) a3
      obtain ⟨m', t', b1, b2, b3, b4⟩ := ih (m + 1) (i + 1) (mc_u t m (f i (t i))) (by omega) (by omega) (mc_uR hr (fl i (t i))) s1 s2 s3
      exact ⟨m', t', b1, b2, b3, fun V hV post hp => hV post (e + 1) m i t hr hm (by omega) (fun h => absurd h (by omega)) (fun _ _ => b4 V hV post hp) (fun _ x y => c.elim (fun z => absurd z x) (fun z => absurd y z))⟩
    · obtain ⟨m', t', b1, b2, b3, b4⟩ := ih m (i + 1) t (by omega) (by omega) hr (fun p q a1 a2 a3 => h1 p q (by omega) a2 a3) h2 (fun p q a1 a2 a3 => h3 p q a1 (by omega) a3)
      exact ⟨m', t', b1, b2, b3, fun V hV post hp => hV post (e + 1) m i t hr hm (by omega) (fun h => absurd h (by omega)) (fun _ x => absurd x c) (fun _ _ _ => b4 V hV post hp)⟩
/-- the whole loop, from a good state -/
theorem mc_all {n : Nat} {t : Nat → Nat} {f : Nat → Nat → Nat} (fl : ∀ i a, f i a < 65536) (fm : ∀ i j a b, i ≤ j → a ≤ b → f i a ≤ f j b) (h : mc_Ok n t) : ∃ (m' : Nat) (t' : Nat → Nat), mc_Ok m' t' ∧ ∀ V, mc_Lp n f V → ∀ post, post (nI m') (nI m', mc_A t') → V post (n + 1) 0 0 (mc_A t) := by
  obtain ⟨h4, hr, hs⟩ := h
  obtain ⟨m', t', b1, b2, b3, b4⟩ := mc_run (n := n) fl fm n 0 0 t (by omega) (Nat.le_refl 0) hr (fun p q _ a2 a3 => hs p q a2 a3) (fun p q _ a2 => absurd a2 (by omega)) (fun p q a1 _ _ => absurd a1 (by omega))
  exact ⟨m', t', ⟨by omega, b2, b3⟩, b4⟩
end
section
/-! the three merging loops: X's moveAll, X's typeAll, Y's shift -/
theorem mc_x71 {post : Int32 → SX → Prop} {J : Int32 → Int32 → (Nat → Int32) → Prop} {x1 f_n : Int32} {m i c : Nat} {t : Nat → Nat} (hm : m < 4) (hc : c < 65536) (h : J (nI (m + 1)) (nI (i + 1)) (mc_A (mc_u t m c))) : wX_moveAll_71 post J x1 (nI m) (nI i) (nI c) f_n (mc_A t) := by
  unfold wX_moveAll_71
  exact And.intro (vp_in_nI hm (by decide)) (nm_r (mc_put t m hm hc) (nm_r (nI_1 m) (nm_r (nI_1 i) h)))
theorem mc_x48 {post : Int32 → SX → Prop} {J : Int32 → Int32 → (Nat → Int32) → Prop} {x1 f_n : Int32} {x4 : Int64} {m i c : Nat} {t : Nat → Nat} (hx : (x4.toInt32.toUInt32 % 65536).toInt32 = nI c) (hc : c < 65536) (hm : m < 4) (hr : mc_R t) (h1 : (m = 0 ∨ t (m - 1) ≠ c) → J (nI (m + 1)) (nI (i + 1)) (mc_A (mc_u t m c))) (h2 : m ≠ 0 → t (m - 1) = c → J (nI m) (nI (i + 1)) (mc_A t)) : wX_moveAll_48 post J x1 (nI m) (nI i) x4 f_n (mc_A t) := by
  unfold wX_moveAll_48
  refine nm_r hx ?_
  refine pk_eq m 0 (fun e => mc_x71 hm hc (h1 (Or.inl e))) (fun e => ?_)
  obtain ⟨b, rfl⟩ : ∃ b, m = b + 1 := ⟨m - 1, by omega⟩
  rw [nI_pred, mc_get t (by omega)]
  have hb := hr b
  exact And.intro (vp_in_nI (by omega) (by decide)) (pk_eq (t b) c (fun z => nm_r (nI_1 i) (h2 e z)) (fun z => mc_x71 hm hc (h1 (Or.inr z))))
theorem mc_LpM (d : Int32) {n : Nat} (hn : n ≤ 4) : mc_Lp n (mc_f d.toInt 0) (fun post k => wX_moveAll_4 post d (nI n) k) := by
  intro post k m i t hr hm hi h0 h1 h2
  show wX_moveAll_4 post d (nI n) (k + 1) (nI m) (nI i) (mc_A t)
  rw [wX_moveAll_4]
  refine pk_le n i (fun e => h0 (by omega)) (fun e => ?_)
  refine And.intro (vp_in_nI (by omega) (by decide)) ?_
  rw [mc_get t (by omega)]
  refine nm_e ?_
  exact mc_clamp (B := fun y => wX_moveAll_48 post (wX_moveAll_4 post d (nI n) k) d (nI m) (nI i) y (nI n) (mc_A t)) _ ((t i : Int) + d.toInt + ((0 * (i + 1) : Nat) : Int)) (by rw [mc_add64' _ _ (hr i)]; omega) (fun y hy => mc_x48 hy (mc_cl_lt _) (by omega) hr (h1 e) (h2 e))
theorem mc_x53 {post : Int32 → SX → Prop} {J : Int32 → Int32 → (Nat → Int32) → Prop} {f_n : Int32} {m i c : Nat} {t : Nat → Nat} (hm : m < 4) (hc : c < 65536) (h : J (nI (m + 1)) (nI (i + 1)) (mc_A (mc_u t m c))) : wX_typeAll_53 post J (nI m) (nI i) (nI c) f_n (mc_A t) := by
  unfold wX_typeAll_53
  exact And.intro (vp_in_nI hm (by decide)) (nm_r (mc_put t m hm hc) (nm_r (nI_1 m) (nm_r (nI_1 i) h)))
theorem mc_x32 {post : Int32 → SX → Prop} {J : Int32 → Int32 → (Nat → Int32) → Prop} {x3 f_n : Int32} {m i c : Nat} {t : Nat → Nat} (hx : (x3.toUInt32 % 65536).toInt32 = nI c) (hc : c < 65536) (hm : m < 4) (hr : mc_R t) (h1 : (m = 0 ∨ t (m - 1) ≠ c) → J (nI (m + 1)) (nI (i + 1)) (mc_A (mc_u t m c))) (h2 : m ≠ 0 → t (m - 1) = c → J (nI m) (nI (i + 1)) (mc_A t)) : wX_typeAll_32 post J (nI m) (nI i) x3 f_n (mc_A t) := by
  unfold wX_typeAll_32
  refine nm_r hx ?_
  refine pk_eq m 0 (fun e => mc_x53 hm hc (h1 (Or.inl e))) (fun e => ?_)
  obtain ⟨b, rfl⟩ : ∃ b, m = b + 1 := ⟨m - 1, by omega⟩
  rw [nI_pred, mc_get t (by omega)]
  have hb := hr b
  exact And.intro (vp_in_nI (by omega) (by decide)) (pk_eq (t b) c (fun z => nm_r (nI_1 i) (h2 e z)) (fun z => mc_x53 hm hc (h1 (Or.inr z))))
theorem mc_fT {i a : Nat} (h : a + i + 1 ≤ 65535) : mc_f 0 1 i a = a + i + 1 := by
  unfold mc_f
  rw [mc_cl_mid (by omega) (by omega)]
  omega
theorem mc_fT' {i a : Nat} (h : 65535 < a + i + 1) : mc_f 0 1 i a = 65535 := by
  unfold mc_f
  exact mc_cl_big (by omega)
theorem mc_LpT {n : Nat} (hn : n ≤ 4) : mc_Lp n (mc_f 0 1) (fun post k => wX_typeAll_4 post (nI n) k) := by
  intro post k m i t hr hm hi h0 h1 h2
  show wX_typeAll_4 post (nI n) (k + 1) (nI m) (nI i) (mc_A t)
  rw [wX_typeAll_4]
  refine pk_le n i (fun e => h0 (by omega)) (fun e => ?_)
  refine And.intro (vp_in_nI (by omega) (by decide)) ?_
  have ht := hr i
  rw [mc_get t (by omega)]
  refine nm_r (e' := nI (t i + i + 1)) (by rw [nI_add, nI_1]) ?_
  refine pk_le (t i + i + 1) 65535 (fun z => ?_) (fun z => ?_)
  · exact mc_x32 (c := mc_f 0 1 i (t i)) (by rw [mc_fT z]; exact mc_ch (by omega)) (mc_f_lt _ _ _ _) (by omega) hr (h1 e) (h2 e)
  · exact mc_x32 (c := mc_f 0 1 i (t i)) (by rw [mc_fT' z]; exact mc_ch (x := 65535) (by decide)) (mc_f_lt _ _ _ _) (by omega) hr (h1 e) (h2 e)
theorem mc_y82 {post : Int32 → SY → Prop} {J : Int32 → Int32 → (Nat → Int32) → Prop} {x1 x2 f_n : Int32} {m i c : Nat} {t : Nat → Nat} (hm : m < 4) (hc : c < 65536) (h : J (nI (m + 1)) (nI (i + 1)) (mc_A (mc_u t m c))) : wY_shift_82 post J x1 x2 (nI m) (nI i) (nI c) f_n (mc_A t) := by
  unfold wY_shift_82
  exact nm_r (nI_1 m) (And.intro (vp_in_nI hm (by decide)) (nm_r (mc_put t m hm hc) (nm_r (nI_1 i) h)))
theorem mc_y59 {post : Int32 → SY → Prop} {J : Int32 → Int32 → (Nat → Int32) → Prop} {x1 x2 f_n : Int32} {x5 : Int64} {m i c : Nat} {t : Nat → Nat} (hx : (x5.toInt32.toUInt32 % 65536).toInt32 = nI c) (hc : c < 65536) (hm : m < 4) (hr : mc_R t) (h1 : (m = 0 ∨ t (m - 1) ≠ c) → J (nI (m + 1)) (nI (i + 1)) (mc_A (mc_u t m c))) (h2 : m ≠ 0 → t (m - 1) = c → J (nI m) (nI (i + 1)) (mc_A t)) : wY_shift_59 post J x1 x2 (nI m) (nI i) x5 f_n (mc_A t) := by
  unfold wY_shift_59
  refine nm_r hx ?_
  refine pk_eq m 0 (fun e => mc_y82 hm hc (h1 (Or.inl e))) (fun e => ?_)
  obtain ⟨b, rfl⟩ : ∃ b, m = b + 1 := ⟨m - 1, by omega⟩
  rw [nI_pred, mc_get t (by omega)]
  have hb := hr b
  exact And.intro (vp_in_nI (by omega) (by decide)) (pk_eq (t b) c (fun z => nm_r (nI_1 i) (h2 e z)) (fun z => mc_y82 hm hc (h1 (Or.inr z))))
theorem mc_stp {s i : Nat} (hs : s ≤ 1) (hi : i < 4) : s * (i + 1) < 65536 :=
  Nat.lt_of_le_of_lt (Nat.mul_le_mul hs (Nat.succ_le_of_lt hi)) (by decide)
theorem mc_LpY (d : Int32) (s : Nat) (hs : s ≤ 1) {n : Nat} (hn : n ≤ 4) : mc_Lp n (mc_f d.toInt s) (fun post k => wY_shift_5 post d (nI s) (nI n) k) := by
  intro post k m i t hr hm hi h0 h1 h2
  show wY_shift_5 post d (nI s) (nI n) (k + 1) (nI m) (nI i) (mc_A t)
  rw [wY_shift_5]
  refine pk_le n i (fun e => h0 (by omega)) (fun e => ?_)
  refine And.intro (vp_in_nI (by omega) (by decide)) ?_
  rw [mc_get t (by omega), nI_1 i, pk_mul]
  refine nm_e ?_
  exact mc_clamp (B := fun y => wY_shift_59 post (wY_shift_5 post d (nI s) (nI n) k) d (nI s) (nI m) (nI i) y (nI n) (mc_A t)) _ ((t i : Int) + d.toInt + ((s * (i + 1) : Nat) : Int)) (mc_add64 _ _ _ (hr i) (mc_stp hs (by omega))) (fun y hy => mc_y59 hy (mc_cl_lt _) (by omega) hr (h1 e) (h2 e))
end
section
/-! add: X shifts from the top, Y carries the displaced caret upwards -/
/-- p put at place q of the carets t, those of q .. n - 1 one place up -/
def mc_i (t : Nat → Nat) (n q p : Nat) : Nat → Nat := fun j => if j < q then t j else if j = q then p else if j ≤ n then t (j - 1) else t j
/-- while X shifts: the places above j up to n hold what stood one place below -/
def mc_h (t : Nat → Nat) (n j : Nat) : Nat → Nat := fun k => if k ≤ j then t k else if k ≤ n then t (k - 1) else t k
theorem mc_i_lo {t : Nat → Nat} {n q p j : Nat} (h : j < q) : mc_i t n q p j = t j := if_pos h
theorem mc_i_at {t : Nat → Nat} {n q p : Nat} : mc_i t n q p q = p := by
  unfold mc_i; rw [if_neg (by omega), if_pos rfl]
theorem mc_i_mid {t : Nat → Nat} {n q p j : Nat} (h : q < j) (h1 : j ≤ n) : mc_i t n q p j = t (j - 1) := by
  unfold mc_i; rw [if_neg (by omega), if_neg (by omega), if_pos h1]
theorem mc_i_hi {t : Nat → Nat} {n q p j : Nat} (h : q < j) (h1 : n < j) : mc_i t n q p j = t j := by
  unfold mc_i; rw [if_neg (by omega), if_neg (by omega), if_neg (by omega)]
theorem mc_h_lo {t : Nat → Nat} {n j k : Nat} (h : k ≤ j) : mc_h t n j k = t k := if_pos h
theorem mc_h_mid {t : Nat → Nat} {n j k : Nat} (h : j < k) (h1 : k ≤ n) : mc_h t n j k = t (k - 1) := by
  unfold mc_h; rw [if_neg (by omega), if_pos h1]
theorem mc_h_hi {t : Nat → Nat} {n j k : Nat} (h : j < k) (h1 : n < k) : mc_h t n j k = t k := by
  unfold mc_h; rw [if_neg (by omega), if_neg (by omega)]
theorem mc_h_0 (t : Nat → Nat) (n : Nat) : mc_h t n n = t := by
  funext k
  by_cases c : k ≤ n
  · exact mc_h_lo c
  · exact mc_h_hi (by omega) (by omega)
theorem mc_h_s {t : Nat → Nat} {n j : Nat} (h : j + 1 ≤ n) : mc_u (mc_h t n (j + 1)) (j + 1) (t j) = mc_h t n j := by
  funext k
  by_cases e : k = j + 1
  · rw [e, mc_us, mc_h_mid (by omega) h]; rfl
  · rw [mc_un e]
    by_cases c : k ≤ j
    · rw [mc_h_lo c, mc_h_lo (by omega)]
    · by_cases c1 : k ≤ n
      · rw [mc_h_mid (by omega) c1, mc_h_mid (by omega) c1]
      · rw [mc_h_hi (by omega) (by omega), mc_h_hi (by omega) (by omega)]
theorem mc_h_e {t : Nat → Nat} {n q p : Nat} : mc_u (mc_h t n q) q p = mc_i t n q p := by
  funext k
  by_cases e : k = q
  · rw [e, mc_us, mc_i_at]
  · rw [mc_un e]
    by_cases c : k < q
    · rw [mc_h_lo (by omega), mc_i_lo c]
    · by_cases c1 : k ≤ n
      · rw [mc_h_mid (by omega) c1, mc_i_mid (by omega) c1]
      · rw [mc_h_hi (by omega) (by omega), mc_i_hi (by omega) (by omega)]
theorem mc_i_0 {t : Nat → Nat} {q p : Nat} : mc_u t q p = mc_i t q q p := by
  funext k
  by_cases e : k = q
  · rw [e, mc_us, mc_i_at]
  · rw [mc_un e]
    by_cases c : k < q
    · rw [mc_i_lo c]
    · rw [mc_i_hi (by omega) (by omega)]
theorem mc_i_s {t : Nat → Nat} {n q p : Nat} (h : q ≤ n) : mc_u (mc_i t n q p) (n + 1) (t n) = mc_i t (n + 1) q p := by
  funext k
  by_cases e : k = n + 1
  · rw [e, mc_us, mc_i_mid (by omega) (by omega)]; rfl
  · rw [mc_un e]
    by_cases c : k < q
    · rw [mc_i_lo c, mc_i_lo c]
    · by_cases c2 : k = q
      · rw [c2, mc_i_at, mc_i_at]
      · by_cases c1 : k ≤ n
        · rw [mc_i_mid (by omega) c1, mc_i_mid (by omega) (by omega)]
        · rw [mc_i_hi (by omega) (by omega), mc_i_hi (by omega) (by omega)]
theorem mc_i_R {t : Nat → Nat} {n q p : Nat} (h : mc_R t) (hp : p < 65536) : mc_R (mc_i t n q p) := by
  intro j
  unfold mc_i
  split
  · exact h _
  · split
    · exact hp
    · split
      · exact h _
      · exact h _
theorem mc_h_R {t : Nat → Nat} {n j : Nat} (h : mc_R t) : mc_R (mc_h t n j) := by
  intro k
  unfold mc_h
  split
  · exact h _
  · split
    · exact h _
    · exact h _
theorem mc_i_S {t : Nat → Nat} {n q p : Nat} (hs : mc_S n t) (hq : q ≤ n) (lo : ∀ j, j < q → t j < p) (hi : ∀ j, q ≤ j → j < n → p < t j) : mc_S (n + 1) (mc_i t n q p) := by
  intro a b hab hb
  by_cases b1 : b < q
  · rw [mc_i_lo b1, mc_i_lo (by omega)]; exact hs a b hab (by omega)
  · by_cases b2 : b = q
    · rw [b2, mc_i_at, mc_i_lo (by omega)]; exact lo a (by omega)
    · rw [mc_i_mid (j := b) (by omega) (by omega)]
      by_cases a1 : a < q
      · rw [mc_i_lo a1]
        exact Nat.lt_trans (lo a a1) (hi (b - 1) (by omega) (by omega))
      · by_cases a2 : a = q
        · rw [a2, mc_i_at]; exact hi (b - 1) (by omega) (by omega)
        · rw [mc_i_mid (j := a) (by omega) (by omega)]; exact hs (a - 1) (b - 1) (by omega) (by omega)
/-- the place of p among the carets -/
theorem mc_q (t : Nat → Nat) (p : Nat) : ∀ n : Nat, mc_S n t → ∃ q, q ≤ n ∧ (∀ j, j < q → t j < p) ∧ (∀ j, q ≤ j → j < n → p ≤ t j) := by
  intro n
  induction n with
  | zero => intro _; exact ⟨0, Nat.le_refl 0, fun j h => absurd h (by omega), fun j _ h => absurd h (by omega)⟩
  | succ n ih =>
    intro hs
    obtain ⟨q, h1, h2, h3⟩ := ih (fun a b x y => hs a b x (by omega))
    by_cases c : t n < p
    · refine ⟨n + 1, Nat.le_refl _, fun j hj => ?_, fun j x y => absurd x (by omega)⟩
      by_cases e : j = n
      · rw [e]; exact c
      · exact Nat.lt_trans (hs j n (by omega) (by omega)) c
    · refine ⟨q, by omega, h2, fun j x y => ?_⟩
      by_cases e : j = n
      · rw [e]; omega
      · exact h3 j x (by omega)
theorem mc_x91 {post : Int32 → SX → Prop} {t : Nat → Nat} {n q p : Nat} (hq : q < 4) (hp : p < 65536) (h : post 1 (nI (n + 1), mc_A (mc_u t q p))) : wX_add_91 post (nI p) (nI q) (nI n) (mc_A t) := by
  unfold wX_add_91
  exact And.intro (vp_in_nI hq (by decide)) (nm_r (e' := mc_A (mc_u t q p)) (by rw [mc_ch hp]; exact mc_put t q hq hp) (nm_r (nI_1 n) h))
theorem mc_x55 {post : Int32 → SX → Prop} {t : Nat → Nat} {n q p : Nat} (hn : n < 4) (hp : p < 65536) (hr : mc_R t) (lo : ∀ j, j < q → t j < p) (hi : ∀ j, q ≤ j → j < n → p < t j) (h : post 1 (nI (n + 1), mc_A (mc_i t n q p))) : ∀ j, q ≤ j → j ≤ n → wX_add_55 post (nI p) (nI n) (j + 1) (nI j) (mc_A (mc_h t n j)) := by
  have he : ∀ j, j = q → j ≤ n → wX_add_91 post (nI p) (nI j) (nI n) (mc_A (mc_h t n j)) := by
    intro j e hj
    rw [e]
    exact mc_x91 (by omega) hp (by rw [mc_h_e]; exact h)
  intro j
  induction j with
  | zero =>
    intro h0 h1
    rw [wX_add_55]
    exact pk_le 0 0 (fun _ => he 0 (by omega) h1) (fun z => absurd z (by omega))
  | succ j ih =>
    intro h0 h1
    have ht := hr j
    rw [wX_add_55]
    refine pk_le (j + 1) 0 (fun z => absurd z (by omega)) (fun _ => ?_)
    rw [nI_pred, mc_get _ (by omega), mc_h_lo (by omega)]
    have hin : vp_in (nI j) 4 := vp_in_nI (by omega) (by decide)
    refine And.intro hin (pk_le (t j) p (fun z => he (j + 1) ?_ h1) (fun z => ?_))
    · by_cases e : q ≤ j
      · exact absurd (hi j e (by omega)) (by omega)
      · omega
    · have e : q ≤ j := by
        by_cases e : q ≤ j
        · exact e
        · exact absurd (lo j (by omega)) (by omega)
      refine And.intro hin (And.intro (vp_in_nI (by omega) (by decide)) (nm_r (mc_put _ (j + 1) (by omega) ht) (nm_r (pk_m1 j) ?_)))
      rw [mc_h_s (by omega)]
      exact ih e (by omega)
theorem mc_x24f {post : Int32 → SX → Prop} {t : Nat → Nat} {n q p : Nat} (hn : n < 4) (hp : p < 65536) (hr : mc_R t) (hq : q < n) (lo : ∀ j, j < q → t j < p) (e : t q = p) (h : post 0 (nI n, mc_A t)) : ∀ k i : Nat, i + k = q → wX_add_24 post (nI p) (nI n) (mc_A t) (k + 1) (nI i) := by
  intro k
  induction k with
  | zero =>
    intro i hi
    rw [wX_add_24]
    refine pk_le n i (fun z => absurd z (by omega)) (fun _ => And.intro (vp_in_nI (by omega) (by decide)) ?_)
    rw [mc_get t (by omega)]
    have hti := hr i
    exact pk_eq (t i) p (fun _ => h) (fun z => absurd (show t i = p by rw [show i = q from by omega]; exact e) z)
  | succ k ih =>
    intro i hi
    rw [wX_add_24]
    refine pk_le n i (fun z => absurd z (by omega)) (fun _ => And.intro (vp_in_nI (by omega) (by decide)) ?_)
    rw [mc_get t (by omega)]
    have hti := hr i
    have hl := lo i (by omega)
    exact pk_eq (t i) p (fun z => absurd z (by omega)) (fun _ => nm_r (nI_1 i) (ih (i + 1) (by omega)))
theorem mc_x24n {post : Int32 → SX → Prop} {t : Nat → Nat} {n p : Nat} (hn : n < 4) (hp : p < 65536) (hr : mc_R t) (ne : ∀ j, j < n → t j ≠ p) (h : ∃ n55 : Nat, wX_add_55 post (nI p) (nI n) n55 (nI n) (mc_A t)) : ∀ k i : Nat, i + k = n → wX_add_24 post (nI p) (nI n) (mc_A t) (k + 1) (nI i) := by
  intro k
  induction k with
  | zero =>
    intro i hi
    rw [wX_add_24]
    exact pk_le n i (fun _ => h) (fun z => absurd z (by omega))
  | succ k ih =>
    intro i hi
    rw [wX_add_24]
    refine pk_le n i (fun z => absurd z (by omega)) (fun _ => And.intro (vp_in_nI (by omega) (by decide)) ?_)
    rw [mc_get t (by omega)]
    have hti := hr i
    exact pk_eq (t i) p (fun z => absurd z (ne i (by omega))) (fun _ => nm_r (nI_1 i) (ih (i + 1) (by omega)))
/-- Y behind the place q: it carries t k, and k + 1 is its index -/
theorem mc_y25b {post : Int32 → SY → Prop} {t : Nat → Nat} {n q p : Nat} (hn : n < 4) (hp : p < 65536) (hr : mc_R t) (hs : mc_S n t) (h : post 1 (nI (n + 1), mc_A (mc_i t n q p))) : ∀ e k : Nat, k + 1 + e = n → q ≤ k → wY_add_25 post (nI n) (e + 1) (nI (t k)) (nI (k + 1)) (mc_A (mc_i t k q p)) := by
  intro e
  induction e with
  | zero =>
    intro k hk hq
    rw [wY_add_25]
    refine pk_le n (k + 1) (fun _ => ?_) (fun z => absurd z (by omega))
    refine nm_r (nI_1 n) (And.intro (vp_in_nI hn (by decide)) (nm_r (mc_put _ n hn (hr k)) ?_))
    obtain rfl : n = k + 1 := by omega
    rw [mc_i_s hq]
    exact h
  | succ e ih =>
    intro k hk hq
    rw [wY_add_25]
    have hin : vp_in (nI (k + 1)) 4 := vp_in_nI (by omega) (by decide)
    refine pk_le n (k + 1) (fun z => absurd z (by omega)) (fun _ => And.intro hin ?_)
    rw [mc_get _ (by omega), mc_i_hi (by omega) (by omega)]
    have l := hs k (k + 1) (by omega) (by omega)
    have r0 := hr k
    have r1 := hr (k + 1)
    refine nm_e (pk_eq (t (k + 1)) (t k) (fun z => absurd z (by omega)) (fun _ => pk_le (t (k + 1)) (t k) (fun z => absurd z (by omega)) (fun _ => And.intro hin (nm_r (mc_put _ (k + 1) (by omega) r0) (nm_r (nI_1 (k + 1)) ?_)))))
    rw [mc_i_s hq]
    exact ih (k + 1) (by omega) (by omega)
/-- Y up to the place q -/
theorem mc_y25 {post : Int32 → SY → Prop} {t : Nat → Nat} {n q p : Nat} (hn : n < 4) (hp : p < 65536) (hr : mc_R t) (hs : mc_S n t) (hq : q ≤ n) (lo : ∀ j, j < q → t j < p) (hi : ∀ j, q ≤ j → j < n → p < t j) (h : post 1 (nI (n + 1), mc_A (mc_i t n q p))) : ∀ e k : Nat, k + e = q → wY_add_25 post (nI n) (n - k + 1) (nI p) (nI k) (mc_A t) := by
  intro e
  induction e with
  | zero =>
    intro k hk
    obtain rfl : k = q := by omega
    rw [wY_add_25]
    refine pk_le n k (fun z => ?_) (fun z => ?_)
    · obtain rfl : n = k := by omega
      refine nm_r (nI_1 n) (And.intro (vp_in_nI hn (by decide)) (nm_r (mc_put _ n hn hp) ?_))
      rw [mc_i_0]
      exact h
    · have hin : vp_in (nI k) 4 := vp_in_nI (by omega) (by decide)
      refine And.intro hin ?_
      rw [mc_get _ (by omega)]
      have l := hi k (Nat.le_refl k) z
      have r1 := hr k
      refine nm_e (pk_eq (t k) p (fun z => absurd z (by omega)) (fun _ => pk_le (t k) p (fun z => absurd z (by omega)) (fun _ => And.intro hin (nm_r (mc_put _ k (by omega) hp) (nm_r (nI_1 k) ?_)))))
      rw [mc_i_0]
      obtain ⟨e, he⟩ : ∃ e, n - k = e + 1 := ⟨n - k - 1, by omega⟩
      rw [he]
      exact mc_y25b hn hp hr hs h e k (by omega) (Nat.le_refl k)
  | succ e ih =>
    intro k hk
    rw [wY_add_25]
    have l := lo k (by omega)
    have r1 := hr k
    refine pk_le n k (fun z => absurd z (by omega)) (fun z => And.intro (vp_in_nI (by omega) (by decide)) ?_)
    rw [mc_get _ (by omega)]
    refine nm_e (pk_eq (t k) p (fun z => absurd z (by omega)) (fun _ => pk_le (t k) p (fun _ => nm_r (nI_1 k) ?_) (fun z => absurd z (by omega))))
    rw [show n - k = n - (k + 1) + 1 from by omega]
    exact ih (k + 1) (by omega)
theorem mc_y25f {post : Int32 → SY → Prop} {t : Nat → Nat} {n q p : Nat} (hn : n < 4) (hp : p < 65536) (hr : mc_R t) (hq : q < n) (lo : ∀ j, j < q → t j < p) (he : t q = p) (h : post 0 (nI n, mc_A t)) : ∀ e k : Nat, k + e = q → wY_add_25 post (nI n) (e + 1) (nI p) (nI k) (mc_A t) := by
  intro e
  induction e with
  | zero =>
    intro k hk
    obtain rfl : k = q := by omega
    rw [wY_add_25]
    refine pk_le n k (fun z => absurd z (by omega)) (fun z => And.intro (vp_in_nI (by omega) (by decide)) ?_)
    rw [mc_get _ (by omega)]
    have r1 := hr k
    exact nm_e (pk_eq (t k) p (fun _ => h) (fun z => absurd he z))
  | succ e ih =>
    intro k hk
    rw [wY_add_25]
    have l := lo k (by omega)
    have r1 := hr k
    refine pk_le n k (fun z => absurd z (by omega)) (fun z => And.intro (vp_in_nI (by omega) (by decide)) ?_)
    rw [mc_get _ (by omega)]
    exact nm_e (pk_eq (t k) p (fun z => absurd z (by omega)) (fun _ => pk_le (t k) p (fun _ => nm_r (nI_1 k) (ih (k + 1) (by omega))) (fun z => absurd z (by omega))))
/-- add has one outcome on both sides -/
theorem mc_add {n : Nat} {t : Nat → Nat} (h : mc_Ok n t) (v : Int32) : ∃ (r : Int32) (n' : Nat) (t' : Nat → Nat), mc_Ok n' t' ∧ (∀ post : Int32 → SX → Prop, post r (nI n', mc_A t') → wpX_add post (nI n, mc_A t) v) ∧ (∀ post : Int32 → SY → Prop, post r (nI n', mc_A t') → wpY_add post (nI n, mc_A t) v) := by
  obtain ⟨h4, hr, hs⟩ := h
  by_cases h0 : v < 0
  · exact ⟨0, n, t, ⟨h4, hr, hs⟩, fun post hp => br_t h0 hp, fun post hp => br_t h0 hp⟩
  by_cases h1 : v ≤ 65535
  case neg =>
    exact ⟨0, n, t, ⟨h4, hr, hs⟩, fun post hp => br_f h0 (br_f h1 hp), fun post hp => br_f h0 (br_t (Int32.not_le.mp h1) hp)⟩
  have h1' : ¬ (65535 : Int32) < v := Int32.not_lt.mpr h1
  obtain ⟨p, hp', rfl⟩ := nI_of2 (n := 65535) (M := 65535) (by decide) h0 h1
  have hp : p < 65536 := by omega
  by_cases h2 : n = 4
  · exact ⟨0, n, t, ⟨h4, hr, hs⟩, fun post hq => br_f h0 (br_t h1 (pk_lt n 4 (fun z => absurd z (by omega)) (fun _ => hq))), fun post hq => br_f h0 (br_f h1' (pk_eq n 4 (fun _ => hq) (fun z => absurd h2 z)))⟩
  have hn : n < 4 := by omega
  obtain ⟨q, q1, q2, q3⟩ := mc_q t p n hs
  by_cases h3 : q < n ∧ t q = p
  · refine ⟨0, n, t, ⟨h4, hr, hs⟩, fun post hq => br_f h0 (br_t h1 (pk_lt n 4 (fun _ => ⟨q + 1, mc_x24f hn hp hr h3.1 q2 h3.2 hq q 0 (by omega)⟩) (fun z => absurd z (by omega)))), fun post hq => br_f h0 (br_f h1' (pk_eq n 4 (fun z => absurd z h2) (fun _ => nm_r (mc_ch hp) ⟨q + 1, mc_y25f hn hp hr h3.1 q2 h3.2 hq q 0 (by omega)⟩)))⟩
  · have q4 : ∀ j, q ≤ j → j < n → p < t j := by
      intro j a b
      have c := q3 q (Nat.le_refl q) (by omega)
      have d : t q ≠ p := fun z => h3 ⟨by omega, z⟩
      by_cases e : j = q
      · rw [e]; omega
      · have := hs q j (by omega) b
        omega
    have q5 : ∀ j, j < n → t j ≠ p := by
      intro j a
      by_cases e : j < q
      · have := q2 j e
        omega
      · have := q4 j (by omega) a
        omega
    refine ⟨1, n + 1, mc_i t n q p, ⟨by omega, mc_i_R hr hp, mc_i_S hs q1 q2 q4⟩, fun post hq => br_f h0 (br_t h1 (pk_lt n 4 (fun _ => ⟨n + 1, mc_x24n hn hp hr q5 ⟨n + 1, ?_⟩ n 0 (by omega)⟩) (fun z => absurd z (by omega)))), fun post hq => br_f h0 (br_f h1' (pk_eq n 4 (fun z => absurd z h2) (fun _ => nm_r (mc_ch hp) ⟨n - 0 + 1, mc_y25 hn hp hr hs q1 q2 q4 hq q 0 (by omega)⟩)))⟩
    have K := mc_x55 hn hp hr q2 q4 hq n q1 (Nat.le_refl n)
    rw [mc_h_0] at K
    exact K
end
section
/-- both objects hold the same carets, and they are good -/
def i_Rel (k : Nat) (u : SX) (v : SY) : Prop := ∃ (n : Nat) (t : Nat → Nat), mc_Ok n t ∧ u = (nI n, mc_A t) ∧ v = (nI n, mc_A t)
theorem i_up {k : Nat} {u : SX} {v : SY} (h : i_Rel k u v) : i_Rel (k + 2) u v := h
theorem i_vc0 : wpX_init (fun u => wpY_init (fun v => i_Rel 0 u v)) := by
  show i_Rel 0 (0, fun _ => 0) (0, fun _ => 0)
  exact ⟨0, fun _ => 0, ⟨by decide, fun _ => Nat.zero_lt_succ 65535, fun p q _ h => absurd h (by omega)⟩, rfl, rfl⟩
theorem i_vc_add {k : Nat} {u : SX} {v : SY} (I : i_Rel k u v) (hk : k + 2 ≤ 1024) (v1 : Int32) : wpX_add (fun r u' => wpY_add (fun r' v' => r' = r ∧ i_Rel (k + 2) u' v') v v1) u v1 := by
  obtain ⟨n, t, h, rfl, rfl⟩ := I
  obtain ⟨r, n', t', g, hX, hY⟩ := mc_add h v1
  exact hX _ (hY _ ⟨rfl, n', t', g, rfl, rfl⟩)
theorem i_vc_moveAll {k : Nat} {u : SX} {v : SY} (I : i_Rel k u v) (hk : k + 2 ≤ 1024) (v1 : Int32) : wpX_moveAll (fun r u' => wpY_moveAll (fun r' v' => r' = r ∧ i_Rel (k + 2) u' v') v v1) u v1 := by
  obtain ⟨n, t, h, rfl, rfl⟩ := I
  obtain ⟨m', t', g, H⟩ := mc_all (f := mc_f v1.toInt 0) (mc_f_lt _ _) (mc_f_mono _ _) h
  have HX := H (fun post k => wX_moveAll_4 post v1 (nI n) k) (mc_LpM v1 h.1)
  have HY := H (fun post k => wY_shift_5 post v1 (nI 0) (nI n) k) (mc_LpY v1 0 (by decide) h.1)
  refine Exists.intro (n + 1) (HX _ ?_)
  show wpY_moveAll _ (nI n, mc_A t) v1
  unfold wpY_moveAll wpY_shift
  refine Exists.intro (n + 1) (HY _ ?_)
  exact ⟨rfl, m', t', g, rfl, rfl⟩
theorem i_vc_typeAll {k : Nat} {u : SX} {v : SY} (I : i_Rel k u v) (hk : k + 2 ≤ 1024) : wpX_typeAll (fun r u' => wpY_typeAll (fun r' v' => r' = r ∧ i_Rel (k + 2) u' v') v) u := by
  obtain ⟨n, t, h, rfl, rfl⟩ := I
  obtain ⟨m', t', g, H⟩ := mc_all (f := mc_f 0 1) (mc_f_lt _ _) (mc_f_mono _ _) h
  have L := mc_LpY 0 1 (by decide) h.1
  rw [show (0 : Int32).toInt = 0 from by decide] at L
  have HX := H (fun post k => wX_typeAll_4 post (nI n) k) (mc_LpT h.1)
  have HY := H (fun post k => wY_shift_5 post 0 (nI 1) (nI n) k) L
  refine Exists.intro (n + 1) (HX _ ?_)
  show wpY_typeAll _ (nI n, mc_A t)
  unfold wpY_typeAll wpY_shift
  refine Exists.intro (n + 1) (HY _ ?_)
  exact ⟨rfl, m', t', g, rfl, rfl⟩
theorem i_vc_caret {k : Nat} {u : SX} {v : SY} (I : i_Rel k u v) (hk : k + 2 ≤ 1024) (v1 : Int32) : wpX_caret (fun r => wpY_caret (fun r' => r' = r ∧ i_Rel (k + 2) u v) v v1) u v1 := by
  obtain ⟨n, t, h, rfl, rfl⟩ := I
  have J : i_Rel (k + 2) (nI n, mc_A t) (nI n, mc_A t) := ⟨n, t, h, rfl, rfl⟩
  by_cases h0 : v1 < 0
  · exact br_t h0 (br_t h0 ⟨rfl, J⟩)
  by_cases h1 : v1 < nI n
  · have h4 := h.1
    have hi : vp_in v1 4 := by
      obtain ⟨j, hj, rfl⟩ := nI_of h0
      rw [nI_ltI hj (by omega)] at h1
      exact vp_in_nI (by omega) (by decide)
    exact br_f h0 (br_t h1 ⟨hi, br_f h0 (br_t h1 ⟨hi, rfl, J⟩)⟩)
  · exact br_f h0 (br_f h1 (br_f h0 (br_f h1 ⟨rfl, J⟩)))
end
