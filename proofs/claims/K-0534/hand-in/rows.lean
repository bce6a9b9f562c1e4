section
/-! rows pasted from the kit's PURE-ROWS -/
theorem pk_us {f : Nat → Int32} {k : Nat} {x : Int32} : upd f k x k = x := if_pos rfl
theorem pk_un {f : Nat → Int32} {k j : Nat} {x : Int32} (h : j ≠ k) : upd f k x j = f j := if_neg h
theorem pk_uLs {f : Nat → Int64} {k : Nat} {x : Int64} : vp_updL f k x k = x := if_pos rfl
theorem pk_uLn {f : Nat → Int64} {k j : Nat} {x : Int64} (h : j ≠ k) : vp_updL f k x j = f j := if_neg h
theorem pk_sub {a b : Nat} (h : b ≤ a) : nI a - nI b = nI (a - b) := by
  obtain ⟨c, rfl⟩ : ∃ c, a = c + b := ⟨a - b, by omega⟩
  rw [← nI_add, Int32.add_sub_cancel, Nat.add_sub_cancel]
theorem pk_m1 (n : Nat) : nI (n + 1) + (-1) = nI n := by
  rw [← nI_1, Int32.add_assoc, show (1 : Int32) + (-1) = 0 from rfl, Int32.add_zero]
theorem pk_mul (a b : Nat) : nI a * nI b = nI (a * b) := (Int32.ofNat_mul a b).symm
theorem pk_le {x y : Int32} {A B : Prop} (a b : Nat) (f : a ≤ b → A) (g : b < a → B) (hx : x = nI a := by rfl) (hy : y = nI b := by rfl) (ha : a < 2 ^ 31 := by omega) (hb : b < 2 ^ 31 := by omega) : (x ≤ y → A) ∧ (¬ x ≤ y → B) := by
  subst hx hy
  rw [nI_leI ha hb]
  exact ⟨f, fun z => g (by omega)⟩
theorem pk_lt {x y : Int32} {A B : Prop} (a b : Nat) (f : a < b → A) (g : b ≤ a → B) (hx : x = nI a := by rfl) (hy : y = nI b := by rfl) (ha : a < 2 ^ 31 := by omega) (hb : b < 2 ^ 31 := by omega) : (x < y → A) ∧ (¬ x < y → B) := by
  subst hx hy
  rw [nI_ltI ha hb]
  exact ⟨f, fun z => g (by omega)⟩
theorem pk_eq {x y : Int32} {A B : Prop} (a b : Nat) (f : a = b → A) (g : a ≠ b → B) (hx : x = nI a := by rfl) (hy : y = nI b := by rfl) (ha : a < 2 ^ 31 := by omega) (hb : b < 2 ^ 31 := by omega) : (x = y → A) ∧ (¬ x = y → B) := by
  subst hx hy
  rw [nI_eq ha hb]
  exact ⟨f, g⟩
theorem pk_in {x : Int32} (n N : Nat) (h : n < N) (hx : x = nI n := by rfl) (hN : N < 2 ^ 31 := by omega) : vp_in x N := by
  subst hx
  exact vp_in_nI h hN
theorem pk_cl {x : Int32} (n : Nat) (hx : x = nI n := by rfl) (h : n < 2 ^ 31 := by omega) : x.toNatClampNeg = n := by
  subst hx
  exact nI_clamp h
theorem pk_tn {n : Nat} (h : n < 2 ^ 32) : (nI n).toBitVec.toNat = n := Nat.mod_eq_of_lt h
theorem pk_and (x : Int32) {m : Int32} (k : Nat) (hm : m.toBitVec.toNat = 2 ^ k - 1) : x &&& m = nI (x.toBitVec.toNat % 2 ^ k) := by
  apply Int32.toBitVec_inj.mp
  apply BitVec.eq_of_toNat_eq
  rw [Int32.toBitVec_and, BitVec.toNat_and, hm, Nat.and_two_pow_sub_one_eq_mod]
  show _ = (BitVec.ofNat 32 _).toNat
  rw [BitVec.toNat_ofNat]
  exact (Nat.mod_eq_of_lt (Nat.lt_of_le_of_lt (Nat.mod_le _ _) x.toBitVec.isLt)).symm
theorem pk_andN {n : Nat} (h : n < 2 ^ 32) {m : Int32} (k : Nat) (hm : m.toBitVec.toNat = 2 ^ k - 1) : nI n &&& m = nI (n % 2 ^ k) := by
  rw [pk_and _ k hm, pk_tn h]
theorem pk_andE (x : Int32) {m : Int32} (k : Nat) (hm : m.toBitVec.toNat = 2 ^ k - 1) : ∃ j : Nat, j < 2 ^ k ∧ x &&& m = nI j := ⟨_, Nat.mod_lt _ (Nat.two_pow_pos k), pk_and x k hm⟩
end
section
/-! the pure laws: bits of a set of arcs, the sum of the distances, the queue's window -/
/-- the bit of vertex j, as both walks write it -/
def zb_bit (j : Nat) : Int64 := (1 : Int64) <<< ((nI j).toInt64 &&& 63)
theorem zb_tp : ∀ j, j < 8 → (zb_bit j).toBitVec = BitVec.twoPow 64 j := by decide +kernel
theorem zb_tn : ∀ j, j < 8 → BitVec.twoPow 64 j ≠ 0#64 := by decide +kernel
theorem zb_z {w : Int64} {j : Nat} (hj : j < 8) : (w &&& zb_bit j) = 0 ↔ w.toBitVec.getLsbD j = false := by
  rw [← Int64.toBitVec_inj, Int64.toBitVec_and, zb_tp j hj, BitVec.and_twoPow]
  cases h : w.toBitVec.getLsbD j
  · exact ⟨fun _ => rfl, fun _ => rfl⟩
  · rw [if_pos rfl]
    exact ⟨fun q => absurd q (zb_tn j hj), fun q => nomatch q⟩
theorem zb_o {w : Int64} {i j : Nat} (hi : i < 8) (hj : j < 8) : ((w ||| zb_bit i) &&& zb_bit j) = 0 ↔ ((w &&& zb_bit j) = 0 ∧ j ≠ i) := by
  rw [zb_z hj, zb_z hj, Int64.toBitVec_or, BitVec.getLsbD_or, zb_tp i hi, BitVec.getLsbD_twoPow, Bool.or_eq_false_iff]
  have h64 : i < 64 := by omega
  rw [decide_eq_true h64, Bool.true_and, decide_eq_false_iff_not]
  exact ⟨fun q => ⟨q.1, fun z => q.2 z.symm⟩, fun q => ⟨q.1, fun z => q.2 z.symm⟩⟩

/-- the arcs of both sides are the same ones -/
def zb_A (fr co : Nat → Int64) (ar : Nat → Int32) : Prop :=
  ∀ i, i < 8 → ∀ j, j < 8 → ((fr i &&& zb_bit j) = 0 ↔ ar (i * 8 + j) = 0) ∧ ((co i &&& zb_bit j) = 0 ↔ ar (64 + i * 8 + j) = 0)
theorem zb_one : vp_nar .boolean 1 = 1 := by first | rfl | decide +kernel
theorem zb_A_free {fr co : Nat → Int64} {ar : Nat → Int32} (A : zb_A fr co ar) {i j : Nat} (hi : i < 8) (hj : j < 8) :
    zb_A (vp_updL fr i (fr i ||| zb_bit j)) co (upd ar (i * 8 + j) 1) := by
  intro a ha b hb
  obtain ⟨h1, h2⟩ := A a ha b hb
  constructor
  · by_cases e : a = i
    · subst e
      rw [pk_uLs, zb_o hj hb]
      by_cases e2 : b = j
      · subst e2
        rw [pk_us]
        exact ⟨fun q => absurd rfl q.2, fun q => absurd q (by decide)⟩
      · rw [pk_un (by omega), ← h1]
        exact ⟨fun q => q.1, fun q => ⟨q, e2⟩⟩
    · rw [pk_uLn e, pk_un (by omega)]
      exact h1
  · rw [pk_un (by omega)]
    exact h2
theorem zb_A_costly {fr co : Nat → Int64} {ar : Nat → Int32} (A : zb_A fr co ar) {i j : Nat} (hi : i < 8) (hj : j < 8) :
    zb_A fr (vp_updL co i (co i ||| zb_bit j)) (upd ar (64 + i * 8 + j) 1) := by
  intro a ha b hb
  obtain ⟨h1, h2⟩ := A a ha b hb
  constructor
  · rw [pk_un (by omega)]
    exact h1
  · by_cases e : a = i
    · subst e
      rw [pk_uLs, zb_o hj hb]
      by_cases e2 : b = j
      · subst e2
        rw [pk_us]
        exact ⟨fun q => absurd rfl q.2, fun q => absurd q (by decide)⟩
      · rw [pk_un (by omega), ← h2]
        exact ⟨fun q => q.1, fun q => ⟨q, e2⟩⟩
    · rw [pk_uLn e, pk_un (by omega)]
      exact h2

/-- the first i distances cleared to 8 -/
def zb_cl (d : Nat → Int32) (i : Nat) : Nat → Int32 := fun j => if j < i then 8 else d j
theorem zb_cl0 (d : Nat → Int32) : zb_cl d 0 = d := by
  funext j
  exact if_neg (Nat.not_lt_zero j)
theorem zb_b8 : vp_nar .byte 8 = 8 := by rw [vp_nar_byte]; decide
theorem zb_b0 : vp_nar .byte 0 = 0 := by rw [vp_nar_byte]; decide
theorem zb_cls (d : Nat → Int32) {i : Nat} (hi : i < 8) : upd (zb_cl d i) (nI i).toNatClampNeg (vp_nar .byte 8) = zb_cl d (i + 1) := by
  rw [nI_clamp (by omega), zb_b8]
  funext j
  show (if j = i then 8 else if j < i then 8 else d j) = if j < i + 1 then 8 else d j
  by_cases h : j = i
  · rw [if_pos h, if_pos (by omega)]
  · rw [if_neg h]
    by_cases h2 : j < i
    · rw [if_pos h2, if_pos (by omega)]
    · rw [if_neg h2, if_neg (by omega)]

/-- the sum of the distances: what pushes are paid from -/
def zb_ph (e : Nat → Nat) : Nat := e 0 + e 1 + e 2 + e 3 + e 4 + e 5 + e 6 + e 7
def zb_un (e : Nat → Nat) (k x : Nat) : Nat → Nat := fun j => if j = k then x else e j
theorem zb_uns {e : Nat → Nat} {k x : Nat} : zb_un e k x k = x := if_pos rfl
theorem zb_unn {e : Nat → Nat} {k j x : Nat} (h : j ≠ k) : zb_un e k x j = e j := if_neg h
theorem zb_ph_up (e : Nat → Nat) {v : Nat} (x : Nat) (hv : v < 8) : zb_ph (zb_un e v x) + e v = zb_ph e + x := by
  have hc : v = 0 ∨ v = 1 ∨ v = 2 ∨ v = 3 ∨ v = 4 ∨ v = 5 ∨ v = 6 ∨ v = 7 := by omega
  rcases hc with rfl | rfl | rfl | rfl | rfl | rfl | rfl | rfl <;> simp [zb_ph, zb_un] <;> omega
theorem zb_ph_0 : ∀ s, s < 8 → zb_ph (fun j => if j = s then 0 else 8) = 56 := by decide +kernel

/-- a state of the search, for both sides: h, s are X's head and size, a is Y's head (its tail is a + s), e the distances, c what is left to pop -/
def zb_I (h s a c : Nat) (e : Nat → Nat) (d dq q : Nat → Int32) : Prop :=
  h < 64 ∧ (∀ j, j < 8 → e j ≤ 8) ∧ (∀ j, j < 8 → d j = nI (e j)) ∧ (∀ i, i < s → dq ((h + i) % 64) = q (a + i)) ∧ s + zb_ph e ≤ c ∧ zb_ph e ≤ a ∧ a + s + zb_ph e ≤ 121
theorem zb_d_up {e : Nat → Nat} {d : Nat → Int32} {v x : Nat} (hd : ∀ j, j < 8 → d j = nI (e j)) : ∀ j, j < 8 → upd d v (nI x) j = nI (zb_un e v x j) := by
  intro j hj
  by_cases z : j = v
  · subst z; rw [pk_us, zb_uns]
  · rw [pk_un z, zb_unn z]; exact hd j hj
theorem zb_e_up {e : Nat → Nat} {v x : Nat} (he : ∀ j, j < 8 → e j ≤ 8) (hx : x ≤ 8) : ∀ j, j < 8 → zb_un e v x j ≤ 8 := by
  intro j hj
  by_cases z : j = v
  · subst z; rw [zb_uns]; exact hx
  · rw [zb_unn z]; exact he j hj
theorem zb_front {h s a c : Nat} {e : Nat → Nat} {d dq q : Nat → Int32} (I : zb_I h s a c e d dq q) (hc : c ≤ 57) {v x : Nat} (hv : v < 8) (hx : x < e v) (y : Int32) :
    zb_I ((h + 63) % 64) (s + 1) (a - 1) c (zb_un e v x) (upd d v (nI x)) (upd dq ((h + 63) % 64) y) (upd q (a - 1) y) := by
  obtain ⟨h1, h2, h3, h4, h5, h6, h7⟩ := I
  have hp := zb_ph_up e x hv
  have h8 := h2 v hv
  refine ⟨by omega, zb_e_up h2 (by omega), zb_d_up h3, ?_, by omega, by omega, by omega⟩
  intro i hi
  cases i with
  | zero => rw [show ((h + 63) % 64 + 0) % 64 = (h + 63) % 64 by omega, pk_us, Nat.add_zero, pk_us]
  | succ i =>
    rw [show ((h + 63) % 64 + (i + 1)) % 64 = (h + i) % 64 by omega, show a - 1 + (i + 1) = a + i by omega, pk_un (by omega), pk_un (by omega)]
    exact h4 i (by omega)
theorem zb_back {h s a c : Nat} {e : Nat → Nat} {d dq q : Nat → Int32} (I : zb_I h s a c e d dq q) (hc : c ≤ 57) {v x : Nat} (hv : v < 8) (hx : x < e v) (y : Int32) :
    zb_I h (s + 1) a c (zb_un e v x) (upd d v (nI x)) (upd dq ((h + s) % 64) y) (upd q (a + s) y) := by
  obtain ⟨h1, h2, h3, h4, h5, h6, h7⟩ := I
  have hp := zb_ph_up e x hv
  have h8 := h2 v hv
  refine ⟨h1, zb_e_up h2 (by omega), zb_d_up h3, ?_, by omega, by omega, by omega⟩
  intro i hi
  by_cases z : i = s
  · subst z
    rw [pk_us, pk_us]
  · rw [pk_un (by omega), pk_un (by omega)]
    exact h4 i (by omega)
theorem zb_pop {h s a c : Nat} {e : Nat → Nat} {d dq q : Nat → Int32} (I : zb_I h (s + 1) a (c + 1) e d dq q) : zb_I ((h + 1) % 64) s (a + 1) c e d dq q := by
  obtain ⟨h1, h2, h3, h4, h5, h6, h7⟩ := I
  refine ⟨by omega, h2, h3, ?_, by omega, by omega, by omega⟩
  intro i hi
  rw [show ((h + 1) % 64 + i) % 64 = (h + (i + 1)) % 64 by omega, show a + 1 + i = a + (i + 1) by omega]
  exact h4 (i + 1) (by omega)
theorem zb_start (d dq q : Nat → Int32) {s : Nat} (hs : s < 8) (y : Int32) :
    zb_I 0 1 64 57 (fun j => if j = s then 0 else 8) (upd (zb_cl d 8) s 0) (upd dq 0 y) (upd q 64 y) := by
  have hp := zb_ph_0 s hs
  refine ⟨by omega, ?_, ?_, ?_, by omega, by omega, by omega⟩
  · intro j hj
    show (if j = s then 0 else 8) ≤ 8
    split <;> omega
  · intro j hj
    show (if j = s then (0 : Int32) else if j < 8 then 8 else d j) = nI (if j = s then 0 else 8)
    by_cases z : j = s
    · rw [if_pos z, if_pos z]; rfl
    · rw [if_neg z, if_neg z, if_pos hj]; rfl
  · intro i hi
    obtain rfl : i = 0 := by omega
    rw [show (0 + 0) % 64 = 0 from rfl, Nat.add_zero, pk_us, pk_us]
end
section
/-! the walks of one step of the inner loop, X's and Y's, by cases of the push -/
/-- what both sides store into their queues for vertex v -/
def zb_sh (v : Nat) : Int32 := vp_nar .short (nI v).toInt16.toInt32
theorem zb_nb : ∀ m, m < 10 → (nI m).toInt8.toInt32 = nI m := by decide +kernel
theorem zb_nbX {m : Nat} (h : m < 10) : vp_nar .byte (nI m).toInt8.toInt32 = nI m := by rw [vp_nar_byte, zb_nb m h, zb_nb m h]
theorem zb_nbY {m : Nat} (h : m < 10) : vp_nar .byte (nI m) = nI m := by rw [vp_nar_byte, zb_nb m h]
theorem zb_hm : ∀ h, h < 64 → ((nI h - 1) &&& 63) = nI ((h + 63) % 64) := by decide +kernel
theorem zb_hp : ∀ h, h < 64 → ((nI h + 1) &&& 63) = nI ((h + 1) % 64) := by decide +kernel
theorem zb_h0 : ∀ h, h < 64 → (nI h &&& 63) = nI h := by decide +kernel
theorem zb_t0 : ∀ a, a < 128 → (nI a &&& 127) = nI a := by decide +kernel
theorem zb_hs {h s : Nat} (hh : h < 64) (hs : s < 64) : ((nI h + nI s) &&& 63) = nI ((h + s) % 64) := by
  rw [nI_add]
  exact pk_andN (by omega) 6 (by decide)
theorem zb_ix {u v : Nat} : nI u * 8 + nI v = nI (u * 8 + v) := by
  show nI u * nI 8 + nI v = _
  rw [pk_mul, nI_add]
theorem zb_ix64 {u v : Nat} : (64 : Int32) + nI u * 8 + nI v = nI (64 + u * 8 + v) := by
  show nI 64 + nI u * nI 8 + nI v = _
  rw [pk_mul, nI_add, nI_add]
theorem zb_v8 {v : Nat} (hv : v < 8) : ¬ (8 : Int32) ≤ nI v := nI_ge (b := 8) hv (by decide)
theorem zb_upd {f : Nat → Int32} {x y y' : Int32} {k : Nat} (hx : x = nI k) (hk : k < 2 ^ 31) (hy : y = y') : upd f x.toNatClampNeg y = upd f k y' := by
  rw [hx, nI_clamp hk, hy]

section
variable {post : Int32 → SX → Prop} {J64 : Int32 → Int32 → Int32 → (Nat → Int64) → (Nat → Int64) → (Nat → Int32) → (Nat → Int32) → Prop} {J98 : Int32 → Int32 → Int32 → (Nat → Int64) → (Nat → Int64) → (Nat → Int32) → (Nat → Int32) → Prop}
variable {x4 : Int32} {h s u v m1 m2 n : Nat} {fr co : Nat → Int64} {d dq : Nat → Int32}
theorem zb_x183s (hu : u < 8) (hv : v < 8) (h1 : m1 ≤ 8) (h2 : m2 ≤ 8) (g : (co u &&& zb_bit v) = 0 ∨ m2 ≤ m1 + 1)
    (K : J98 (nI h) (nI s) (nI (v + 1)) fr co d dq) :
    wX_run_183 post J64 J98 (nI h) (nI s) x4 (nI u) (nI v) (zb_bit v) (nI m1) (nI m2) fr co d dq := by
  unfold wX_run_183
  rw [nI_clamp (n := u) (by omega)]
  refine ⟨vp_in_nI hu (by decide), ?_⟩
  by_cases z : (co u &&& zb_bit v) = 0
  · exact br_t z (nm_r (nI_1 v) K)
  · have hle : nI m2 ≤ nI m1 + 1 := by
      rw [nI_1]
      exact nI_le (g.resolve_left z) (by omega)
    exact br_f z (br_t hle (nm_r (nI_1 v) K))
theorem zb_x183b (hh : h < 64) (hs : s < 64) (hu : u < 8) (hv : v < 8) (h2 : m2 ≤ 8) (g : ¬ (co u &&& zb_bit v) = 0) (hlt : m1 + 1 < m2)
    (K : J98 (nI h) (nI (s + 1)) (nI (v + 1)) fr co (upd d v (nI (m1 + 1))) (upd dq ((h + s) % 64) (zb_sh v))) :
    wX_run_183 post J64 J98 (nI h) (nI s) x4 (nI u) (nI v) (zb_bit v) (nI m1) (nI m2) fr co d dq := by
  unfold wX_run_183
  rw [nI_clamp (n := u) (by omega)]
  refine ⟨vp_in_nI hu (by decide), br_f g (br_f ?_ ⟨vp_in_nI hv (by decide), ?_⟩)⟩
  · rw [nI_1]
    exact nI_ge hlt (by omega)
  · refine nm_r (zb_upd (k := v) (y' := nI (m1 + 1)) rfl (by omega) ?_) ⟨?_, nm_r (zb_upd (k := (h + s) % 64) (y' := zb_sh v) (zb_hs hh hs) (by omega) rfl) (nm_r (nI_1 s) (nm_r (nI_1 v) K))⟩
    · rw [nI_1]
      exact zb_nbX (by omega)
    · rw [zb_hs hh hs]
      exact vp_in_nI (by omega) (by decide)
theorem zb_x98s (hu : u < 8) (hv : v < 8) (h1 : m1 ≤ 8) (h2 : m2 ≤ 8) (e1 : d u = nI m1) (e2 : d v = nI m2) (g : (fr u &&& zb_bit v) = 0 ∨ m2 ≤ m1)
    (K : wX_run_183 post J64 (wX_run_98 post J64 x4 (nI u) n) (nI h) (nI s) x4 (nI u) (nI v) (zb_bit v) (nI m1) (nI m2) fr co d dq) :
    wX_run_98 post J64 x4 (nI u) (n + 1) (nI h) (nI s) (nI v) fr co d dq := by
  have eu : (nI u).toNatClampNeg = u := nI_clamp (by omega)
  have ev : (nI v).toNatClampNeg = v := nI_clamp (by omega)
  have f1 : d (nI u).toNatClampNeg = nI m1 := by rw [eu]; exact e1
  have f2 : d (nI v).toNatClampNeg = nI m2 := by rw [ev]; exact e2
  have iu : vp_in (nI u) 8 := vp_in_nI hu (by decide)
  have iv : vp_in (nI v) 8 := vp_in_nI hv (by decide)
  refine br_f (zb_v8 hv) (nm_r (e' := zb_bit v) rfl ⟨iu, nm_r f1 ⟨iv, nm_r f2 ⟨iu, ?_⟩⟩⟩)
  rw [eu]
  by_cases z : (fr u &&& zb_bit v) = 0
  · exact br_t z K
  · exact br_f z (br_t (nI_le (g.resolve_left z) (by omega)) K)
theorem zb_x98f (hh : h < 64) (hu : u < 8) (hv : v < 8) (h2 : m2 ≤ 8) (e1 : d u = nI m1) (e2 : d v = nI m2) (g : ¬ (fr u &&& zb_bit v) = 0) (hlt : m1 < m2)
    (K : wX_run_98 post J64 x4 (nI u) n (nI ((h + 63) % 64)) (nI (s + 1)) (nI (v + 1)) fr co (upd d v (nI m1)) (upd dq ((h + 63) % 64) (zb_sh v))) :
    wX_run_98 post J64 x4 (nI u) (n + 1) (nI h) (nI s) (nI v) fr co d dq := by
  have eu : (nI u).toNatClampNeg = u := nI_clamp (by omega)
  have ev : (nI v).toNatClampNeg = v := nI_clamp (by omega)
  have f1 : d (nI u).toNatClampNeg = nI m1 := by rw [eu]; exact e1
  have f2 : d (nI v).toNatClampNeg = nI m2 := by rw [ev]; exact e2
  have iu : vp_in (nI u) 8 := vp_in_nI hu (by decide)
  have iv : vp_in (nI v) 8 := vp_in_nI hv (by decide)
  refine br_f (zb_v8 hv) (nm_r (e' := zb_bit v) rfl ⟨iu, nm_r f1 ⟨iv, nm_r f2 ⟨iu, ?_⟩⟩⟩)
  rw [eu]
  refine br_f g (br_f (nI_ge hlt (by omega)) ⟨iv, nm_r (zb_upd (k := v) (y' := nI m1) rfl (by omega) (zb_nbX (by omega))) (nm_r (zb_hm h hh) ⟨vp_in_nI (by omega) (by decide), ?_⟩)⟩)
  exact nm_r (zb_upd (k := (h + 63) % 64) (y' := zb_sh v) rfl (by omega) rfl) (nm_r (nI_1 s) (nm_r (nI_1 v) K))
end

section
variable {post : Int32 → SY → Prop} {J58 : Int32 → Int32 → Int32 → (Nat → Int32) → (Nat → Int32) → (Nat → Int32) → Prop} {J98 : Int32 → Int32 → Int32 → (Nat → Int32) → (Nat → Int32) → (Nat → Int32) → Prop}
variable {x2 : Int32} {a b u v m1 m2 n : Nat} {ar d q : Nat → Int32}
theorem zb_y174s (hu : u < 8) (hv : v < 8) (h1 : m1 ≤ 8) (h2 : m2 ≤ 8) (e1 : d u = nI m1) (e2 : d v = nI m2) (g : ar (64 + u * 8 + v) = 0 ∨ m2 ≤ m1 + 1)
    (K : J98 (nI (v + 1)) (nI a) (nI b) ar d q) :
    wY_run_174 post J58 J98 x2 (nI u) (nI v) (nI a) (nI b) ar d q := by
  unfold wY_run_174
  rw [zb_ix64, nI_clamp (n := 64 + u * 8 + v) (by omega), nI_clamp (n := u) (by omega), nI_clamp (n := v) (by omega), e1, e2]
  refine ⟨vp_in_nI (by omega) (by decide), ?_⟩
  by_cases z : ar (64 + u * 8 + v) = 0
  · exact br_t z (nm_r (nI_1 v) K)
  · have hle : nI m2 ≤ nI m1 + 1 := by
      rw [nI_1]
      exact nI_le (g.resolve_left z) (by omega)
    exact br_f z ⟨vp_in_nI hu (by decide), vp_in_nI hv (by decide), br_t hle (nm_r (nI_1 v) K)⟩
theorem zb_y174b (hb : b < 128) (hu : u < 8) (hv : v < 8) (h2 : m2 ≤ 8) (e1 : d u = nI m1) (e2 : d v = nI m2) (g : ¬ ar (64 + u * 8 + v) = 0) (hlt : m1 + 1 < m2)
    (K : J98 (nI (v + 1)) (nI a) (nI (b + 1)) ar (upd d v (nI (m1 + 1))) (upd q b (zb_sh v))) :
    wY_run_174 post J58 J98 x2 (nI u) (nI v) (nI a) (nI b) ar d q := by
  have iu : vp_in (nI u) 8 := vp_in_nI hu (by decide)
  have iv : vp_in (nI v) 8 := vp_in_nI hv (by decide)
  have ib : vp_in (nI b &&& 127) 128 := by
    rw [zb_t0 b hb]
    exact vp_in_nI hb (by decide)
  have hle : ¬ nI m2 ≤ nI m1 + 1 := by
    rw [nI_1]
    exact nI_ge hlt (by omega)
  have hn : vp_nar .byte (nI m1 + 1).toInt8.toInt32 = nI (m1 + 1) := by
    rw [nI_1]
    exact zb_nbX (by omega)
  unfold wY_run_174
  rw [zb_ix64, nI_clamp (n := 64 + u * 8 + v) (by omega), nI_clamp (n := u) (by omega), nI_clamp (n := v) (by omega), e1, e2, hn]
  refine ⟨vp_in_nI (by omega) (by decide), br_f g ⟨iu, iv, br_f hle ⟨iu, iv, nm_e (nm_r (nI_1 b) ⟨ib, ?_⟩)⟩⟩⟩
  exact nm_r (zb_upd (k := b) (y' := zb_sh v) (zb_t0 b hb) (by omega) rfl) (nm_r (nI_1 v) K)
theorem zb_y98s (hu : u < 8) (hv : v < 8) (h1 : m1 ≤ 8) (h2 : m2 ≤ 8) (e1 : d u = nI m1) (e2 : d v = nI m2) (g : ar (u * 8 + v) = 0 ∨ m2 ≤ m1)
    (K : wY_run_174 post J58 (wY_run_98 post J58 x2 (nI u) n) x2 (nI u) (nI v) (nI a) (nI b) ar d q) :
    wY_run_98 post J58 x2 (nI u) (n + 1) (nI v) (nI a) (nI b) ar d q := by
  have iu : vp_in (nI u) 8 := vp_in_nI hu (by decide)
  have iv : vp_in (nI v) 8 := vp_in_nI hv (by decide)
  refine br_f (zb_v8 hv) ?_
  rw [zb_ix, nI_clamp (n := u * 8 + v) (by omega), nI_clamp (n := u) (by omega), nI_clamp (n := v) (by omega), e1, e2]
  refine ⟨vp_in_nI (by omega) (by decide), ?_⟩
  by_cases z : ar (u * 8 + v) = 0
  · exact br_t z K
  · exact br_f z ⟨iu, iv, br_t (nI_le (g.resolve_left z) (by omega)) K⟩
theorem zb_y98f (ha0 : 0 < a) (ha : a ≤ 128) (hu : u < 8) (hv : v < 8) (h2 : m2 ≤ 8) (e1 : d u = nI m1) (e2 : d v = nI m2) (g : ¬ ar (u * 8 + v) = 0) (hlt : m1 < m2)
    (K : wY_run_98 post J58 x2 (nI u) n (nI (v + 1)) (nI (a - 1)) (nI b) ar (upd d v (nI m1)) (upd q (a - 1) (zb_sh v))) :
    wY_run_98 post J58 x2 (nI u) (n + 1) (nI v) (nI a) (nI b) ar d q := by
  have iu : vp_in (nI u) 8 := vp_in_nI hu (by decide)
  have iv : vp_in (nI v) 8 := vp_in_nI hv (by decide)
  have ea : nI a - 1 = nI (a - 1) := pk_sub (b := 1) ha0
  have et : ((nI a - 1) &&& 127) = nI (a - 1) := by
    rw [ea]
    exact zb_t0 (a - 1) (by omega)
  have ia : vp_in ((nI a - 1) &&& 127) 128 := by
    rw [et]
    exact vp_in_nI (by omega) (by decide)
  refine br_f (zb_v8 hv) ?_
  rw [zb_ix, nI_clamp (n := u * 8 + v) (by omega), nI_clamp (n := u) (by omega), nI_clamp (n := v) (by omega), e1, e2, zb_nbY (m := m1) (by omega)]
  refine ⟨vp_in_nI (by omega) (by decide), br_f g ⟨iu, iv, br_f (nI_ge hlt (by omega)) ⟨iu, iv, nm_e (nm_r ea ⟨ia, ?_⟩)⟩⟩⟩
  exact nm_r (zb_upd (k := a - 1) (y' := zb_sh v) et (by omega) rfl) (nm_r (nI_1 v) K)
end
end
section
/-! the loops: clearing, the inner loop and the outer loop in lockstep, one outcome for both sides -/
theorem zb_fuel {m n : Nat} (h : m < n) : ∃ k, n = k + 1 := ⟨n - 1, by omega⟩
theorem zb_88 : (8 : Int32) ≤ nI 8 := by decide
theorem zb_xinit {post : SX → Prop} {fr co : Nat → Int64} {d dq : Nat → Int32} (K : post (fr, co, zb_cl d 8, dq)) :
    ∀ m i, i + m = 8 → wX_init_38 post (m + 1) (nI i) fr co (zb_cl d i) dq := by
  intro m
  induction m with
  | zero =>
    intro i hi
    obtain rfl : i = 8 := by omega
    exact br_t zb_88 K
  | succ m ih =>
    intro i hi
    have hi8 : i < 8 := by omega
    exact br_f (zb_v8 hi8) ⟨vp_in_nI hi8 (by decide), nm_r (zb_cls d hi8) (nm_r (nI_1 i) (ih (i + 1) (by omega)))⟩
theorem zb_yclear {post : SY → Prop} {fh ft : Int32} {ar d q : Nat → Int32} (K : post (fh, ft, ar, zb_cl d 8, q)) :
    ∀ m i, i + m = 8 → wY_clear_2 post fh ft (m + 1) (nI i) ar (zb_cl d i) q := by
  intro m
  induction m with
  | zero =>
    intro i hi
    obtain rfl : i = 8 := by omega
    exact br_t zb_88 K
  | succ m ih =>
    intro i hi
    have hi8 : i < 8 := by omega
    exact br_f (zb_v8 hi8) ⟨vp_in_nI hi8 (by decide), nm_r (zb_cls d hi8) (nm_r (nI_1 i) (ih (i + 1) (by omega)))⟩
theorem zb_ywclear {post : SY → Prop} {fh ft : Int32} {ar d q : Nat → Int32} (K : post (fh, ft, ar, zb_cl d 8, q)) : wpY_clear post (fh, ft, ar, d, q) := by
  have L := zb_yclear K 8 0 rfl
  rw [zb_cl0] at L
  exact ⟨9, L⟩
theorem zb_x14 {post : Int32 → SX → Prop} {w nf : Nat} (hw : w < 8) {fr co : Nat → Int64} {d dq : Nat → Int32}
    (K : wX_run_64 post nf (nI 0) (nI 1) 0 fr co (upd (zb_cl d 8) w 0) (upd dq 0 (zb_sh w))) :
    ∀ m i, i + m = 8 → wX_run_14 post (nI w) (m + 1) (nI i) fr co (zb_cl d i) dq := by
  intro m
  induction m with
  | zero =>
    intro i hi
    obtain rfl : i = 8 := by omega
    refine br_t zb_88 ⟨vp_in_nI hw (by decide), nm_r (zb_upd (k := w) (y' := 0) rfl (by omega) zb_b0) ⟨?_, ?_⟩⟩
    · exact vp_in_iff.mpr (by decide)
    · exact nm_r (zb_upd (k := 0) (y' := zb_sh w) (by decide) (by omega) rfl) (nm_r (e' := nI 1) (by decide) ⟨nf, K⟩)
  | succ m ih =>
    intro i hi
    have hi8 : i < 8 := by omega
    exact br_f (zb_v8 hi8) ⟨vp_in_nI hi8 (by decide), nm_r (zb_cls d hi8) (nm_r (nI_1 i) (ih (i + 1) (by omega)))⟩

section
variable {fr co : Nat → Int64} {ar : Nat → Int32}
/-- one turn of the inner loop -/
theorem zb_step (A : zb_A fr co ar) {u v h s a c : Nat} {e : Nat → Nat} {d dq q : Nat → Int32} (hu : u < 8) (hv : v < 8) (hc : c ≤ 57) (I : zb_I h s a c e d dq q) :
    ∃ (h' s' a' : Nat) (e' : Nat → Nat) (d' dq' q' : Nat → Int32), zb_I h' s' a' c e' d' dq' q' ∧
      (∀ (post : Int32 → SX → Prop) (J64 : Int32 → Int32 → Int32 → (Nat → Int64) → (Nat → Int64) → (Nat → Int32) → (Nat → Int32) → Prop) (x4 : Int32) (n : Nat),
        wX_run_98 post J64 x4 (nI u) n (nI h') (nI s') (nI (v + 1)) fr co d' dq' → wX_run_98 post J64 x4 (nI u) (n + 1) (nI h) (nI s) (nI v) fr co d dq) ∧
      (∀ (post : Int32 → SY → Prop) (J58 : Int32 → Int32 → Int32 → (Nat → Int32) → (Nat → Int32) → (Nat → Int32) → Prop) (x2 : Int32) (n : Nat),
        wY_run_98 post J58 x2 (nI u) n (nI (v + 1)) (nI a') (nI (a' + s')) ar d' q' → wY_run_98 post J58 x2 (nI u) (n + 1) (nI v) (nI a) (nI (a + s)) ar d q) := by
  have II := I
  obtain ⟨h1, h2, h3, h4, h5, h6, h7⟩ := II
  obtain ⟨A1, A2⟩ := A u hu v hv
  have e1 := h3 u hu
  have e2 := h3 v hv
  have m1 := h2 u hu
  have m2 := h2 v hv
  by_cases f : (fr u &&& zb_bit v) = 0 ∨ e v ≤ e u
  · have f' : ar (u * 8 + v) = 0 ∨ e v ≤ e u := f.imp A1.mp id
    by_cases g : (co u &&& zb_bit v) = 0 ∨ e v ≤ e u + 1
    · have g' : ar (64 + u * 8 + v) = 0 ∨ e v ≤ e u + 1 := g.imp A2.mp id
      exact ⟨h, s, a, e, d, dq, q, I,
        fun post J64 x4 n K => zb_x98s hu hv m1 m2 e1 e2 f (zb_x183s hu hv m1 m2 g K),
        fun post J58 x2 n K => zb_y98s hu hv m1 m2 e1 e2 f' (zb_y174s hu hv m1 m2 e1 e2 g' K)⟩
    · have g1 : ¬ (co u &&& zb_bit v) = 0 := fun z => g (Or.inl z)
      have g2 : e u + 1 < e v := Nat.lt_of_not_le fun z => g (Or.inr z)
      have g1' : ¬ ar (64 + u * 8 + v) = 0 := fun z => g1 (A2.mpr z)
      have hp := zb_ph_up e (e u + 1) hv
      refine ⟨h, s + 1, a, _, _, _, _, zb_back I hc hv g2 (zb_sh v),
        fun post J64 x4 n K => zb_x98s hu hv m1 m2 e1 e2 f (zb_x183b h1 (by omega) hu hv m2 g1 g2 K),
        fun post J58 x2 n K => zb_y98s hu hv m1 m2 e1 e2 f' (zb_y174b (by omega) hu hv m2 e1 e2 g1' g2 K)⟩
  · have f1 : ¬ (fr u &&& zb_bit v) = 0 := fun z => f (Or.inl z)
    have f2 : e u < e v := Nat.lt_of_not_le fun z => f (Or.inr z)
    have f1' : ¬ ar (u * 8 + v) = 0 := fun z => f1 (A1.mpr z)
    have hp := zb_ph_up e (e u) hv
    have ea : a - 1 + (s + 1) = a + s := by omega
    refine ⟨(h + 63) % 64, s + 1, a - 1, _, _, _, _, zb_front I hc hv f2 (zb_sh v),
      fun post J64 x4 n K => zb_x98f h1 hu hv m2 e1 e2 f1 f2 K,
      fun post J58 x2 n K => ?_⟩
    rw [ea] at K
    exact zb_y98f (by omega) (by omega) hu hv m2 e1 e2 f1' f2 K
/-- the inner loop -/
theorem zb_inner (A : zb_A fr co ar) {u c : Nat} (hu : u < 8) (hc : c ≤ 57) : ∀ (m v h s a : Nat) (e : Nat → Nat) (d dq q : Nat → Int32), v + m = 8 → zb_I h s a c e d dq q →
    ∃ (h' s' a' : Nat) (e' : Nat → Nat) (d' dq' q' : Nat → Int32), zb_I h' s' a' c e' d' dq' q' ∧
      (∀ (post : Int32 → SX → Prop) (J64 : Int32 → Int32 → Int32 → (Nat → Int64) → (Nat → Int64) → (Nat → Int32) → (Nat → Int32) → Prop) (x4 : Int32),
        J64 (nI h') (nI s') x4 fr co d' dq' → wX_run_98 post J64 x4 (nI u) (m + 1) (nI h) (nI s) (nI v) fr co d dq) ∧
      (∀ (post : Int32 → SY → Prop) (J58 : Int32 → Int32 → Int32 → (Nat → Int32) → (Nat → Int32) → (Nat → Int32) → Prop) (x2 : Int32),
        J58 x2 (nI a') (nI (a' + s')) ar d' q' → wY_run_98 post J58 x2 (nI u) (m + 1) (nI v) (nI a) (nI (a + s)) ar d q) := by
  intro m
  induction m with
  | zero =>
    intro v h s a e d dq q hv I
    obtain rfl : v = 8 := by omega
    exact ⟨h, s, a, e, d, dq, q, I, fun post J64 x4 K => br_t zb_88 K, fun post J58 x2 K => br_t zb_88 K⟩
  | succ m ih =>
    intro v h s a e d dq q hv I
    obtain ⟨h1, s1, a1, e1, d1, dq1, q1, I1, X1, Y1⟩ := zb_step A hu (show v < 8 by omega) hc I
    obtain ⟨h2, s2, a2, e2, d2, dq2, q2, I2, X2, Y2⟩ := ih (v + 1) h1 s1 a1 e1 d1 dq1 q1 (by omega) I1
    exact ⟨h2, s2, a2, e2, d2, dq2, q2, I2, fun post J64 x4 K => X1 post J64 x4 (m + 1) (X2 post J64 x4 K), fun post J58 x2 K => Y1 post J58 x2 (m + 1) (Y2 post J58 x2 K)⟩
/-- the outer loop -/
theorem zb_outer (A : zb_A fr co ar) : ∀ (c : Nat), c ≤ 57 → ∀ (h s a : Nat) (e : Nat → Nat) (d dq q : Nat → Int32) (p : Int32), zb_I h s a c e d dq q →
    ∃ (r fh ft : Int32) (d' dq' q' : Nat → Int32),
      (∀ post : Int32 → SX → Prop, post r (fr, co, d', dq') → wX_run_64 post (c + 1) (nI h) (nI s) p fr co d dq) ∧
      (∀ post : Int32 → SY → Prop, post r (fh, ft, ar, d', q') → wY_run_58 post (c + 1) p (nI a) (nI (a + s)) ar d q) := by
  intro c
  induction c with
  | zero =>
    intro hc h s a e d dq q p I
    obtain ⟨h1, h2, h3, h4, h5, h6, h7⟩ := I
    obtain rfl : s = 0 := by omega
    exact ⟨p, nI a, nI (a + 0), d, dq, q, fun post K => br_t (by decide) K, fun post K => br_t rfl K⟩
  | succ c ih =>
    intro hc h s a e d dq q p I
    cases s with
    | zero => exact ⟨p, nI a, nI (a + 0), d, dq, q, fun post K => br_t (by decide) K, fun post K => br_t rfl K⟩
    | succ s =>
      have I1 := zb_pop I
      obtain ⟨h1, h2, h3, h4, h5, h6, h7⟩ := I
      obtain ⟨u, hu, eu⟩ := pk_andE (q a) (m := 7) 3 (by decide)
      have hu8 : u < 8 := hu
      have w0 : dq h = q a := by
        have w := h4 0 (by omega)
        rw [Nat.add_zero, Nat.add_zero, Nat.mod_eq_of_lt h1] at w
        exact w
      have ex : (nI h &&& 63).toNatClampNeg = h := by
        rw [zb_h0 h h1]
        exact nI_clamp (by omega)
      have ey : (nI a &&& 127).toNatClampNeg = a := by
        rw [zb_t0 a (by omega)]
        exact nI_clamp (by omega)
      have ix : vp_in (nI h &&& 63) 64 := by
        rw [zb_h0 h h1]
        exact vp_in_nI h1 (by decide)
      have iy : vp_in (nI a &&& 127) 128 := by
        rw [zb_t0 a (by omega)]
        exact vp_in_nI (by omega) (by decide)
      have ux : (dq (nI h &&& 63).toNatClampNeg &&& 7) = nI u := by rw [ex, w0]; exact eu
      have uy : (q (nI a &&& 127).toNatClampNeg &&& 7) = nI u := by rw [ey]; exact eu
      have ht : a + (s + 1) = a + 1 + s := by omega
      have hne : ¬ nI a = nI (a + 1 + s) := by
        rw [nI_eq (by omega) (by omega)]
        omega
      obtain ⟨h8, s8, a8, e8, d8, dq8, q8, I8, X8, Y8⟩ := zb_inner A hu8 (show c ≤ 57 by omega) 8 0 ((h + 1) % 64) s (a + 1) e d dq q rfl I1
      obtain ⟨r, fh, ft, d9, dq9, q9, X9, Y9⟩ := ih (by omega) h8 s8 a8 e8 d8 dq8 q8 (p + 1) I8
      refine ⟨r, fh, ft, d9, dq9, q9, fun post K => ?_, fun post K => ?_⟩
      · exact br_f (nI_nle (by omega) (by omega)) ⟨ix, nm_r ux (nm_r (zb_hp h h1) (nm_r (pk_m1 s) (nm_e ⟨9, X8 post (wX_run_64 post (c + 1)) (p + 1) (X9 post K)⟩)))⟩
      · rw [ht]
        exact br_f hne (nm_r (nI_1 a) ⟨iy, nm_r uy (nm_e ⟨9, Y8 post (wY_run_58 post (c + 1)) (p + 1) (Y9 post K)⟩)⟩)
end
end
section
/-- the relation at the head of a turn: the same distances, the same arcs -/
def i_Rel (k : Nat) (u : SX) (v : SY) : Prop := v.2.2.2.1 = u.2.2.1 ∧ zb_A u.1 u.2.1 v.2.2.1
theorem i_up {k : Nat} {u : SX} {v : SY} (h : i_Rel k u v) : i_Rel (k + 4) u v := h
theorem zb_z0 {j : Nat} (hj : j < 8) : ((0 : Int64) &&& zb_bit j) = 0 := by
  rw [zb_z hj]
  exact BitVec.getLsbD_zero
theorem zb_A0 : zb_A (fun _ => 0) (fun _ => 0) (fun _ => 0) := fun i _ j hj => ⟨⟨fun _ => rfl, fun _ => zb_z0 hj⟩, ⟨fun _ => rfl, fun _ => zb_z0 hj⟩⟩
theorem i_vc0 : wpX_init (fun u => wpY_init (fun v => i_Rel 0 u v)) := by
  have L := zb_xinit (post := fun u => wpY_init (fun v => i_Rel 0 u v)) (fr := fun _ => 0) (co := fun _ => 0) (d := fun _ => 0) (dq := fun _ => 0) ?_ 8 0 rfl
  · rw [zb_cl0] at L
    exact ⟨9, L⟩
  · unfold wpY_init
    exact zb_ywclear (d := fun _ => 0) ⟨rfl, zb_A0⟩
theorem i_vc_arc {k : Nat} {u : SX} {v : SY} (I : i_Rel k u v) (hk : k + 4 ≤ 2048) (v1 : Int32) (v2 : Int32) (v3 : Int32) : wpX_arc (fun r u' => wpY_arc (fun r' v' => r' = r ∧ i_Rel (k + 4) u' v') v v1 v2 v3) u v1 v2 v3 := by
  obtain ⟨fr, co, d, dq⟩ := u
  obtain ⟨fh, ft, ar, d', q⟩ := v
  have ed : d' = d := I.1
  have A : zb_A fr co ar := I.2
  subst ed
  by_cases c1 : v1 < 0
  · exact br_t c1 (br_t c1 ⟨rfl, I⟩)
  by_cases c2 : 7 < v1
  · exact br_f c1 (br_t c2 (br_f c1 (br_t c2 ⟨rfl, I⟩)))
  by_cases c3 : v2 < 0
  · exact br_f c1 (br_f c2 (br_t c3 (br_f c1 (br_f c2 (br_t c3 ⟨rfl, I⟩)))))
  by_cases c4 : v2 ≤ 7
  · obtain ⟨i, hi, rfl⟩ := nI_of2 (n := 7) (by decide) c1 (Int32.not_lt.mp c2)
    obtain ⟨j, hj, rfl⟩ := nI_of2 (n := 7) (by decide) c3 c4
    have hi8 : i < 8 := by omega
    have hj8 : j < 8 := by omega
    have ii : vp_in (nI i) 8 := vp_in_nI hi8 (by decide)
    have ei : (nI i).toNatClampNeg = i := nI_clamp (by omega)
    obtain ⟨A1, A2⟩ := A i hi8 j hj8
    obtain ⟨b, hb, eb⟩ := pk_andE v3 (m := 1) 1 (by decide)
    have hb2 : b = 0 ∨ b = 1 := by omega
    have hx : (v3 &&& 1) * 64 + nI i * 8 + nI j = nI (b * 64 + i * 8 + j) := by
      rw [eb]
      show nI b * nI 64 + nI i * nI 8 + nI j = _
      rw [pk_mul, pk_mul, nI_add, nI_add]
    have iy : vp_in (nI (b * 64 + i * 8 + j)) 128 := vp_in_nI (by omega) (by decide)
    have ey : (nI (b * 64 + i * 8 + j)).toNatClampNeg = b * 64 + i * 8 + j := nI_clamp (by omega)
    refine br_f c1 (br_f c2 (br_f c3 (br_t c4 (nm_r (e' := zb_bit j) rfl ?_))))
    rcases hb2 with rfl | rfl
    · have e0 : 0 * 64 + i * 8 + j = i * 8 + j := by omega
      rw [e0] at hx iy ey
      refine br_t eb ⟨ii, ?_⟩
      rw [ei]
      by_cases z : (fr i &&& zb_bit j) = 0
      · have z' : ar (nI (i * 8 + j)).toNatClampNeg = 0 := by rw [ey]; exact A1.mp z
        refine br_t z ⟨ii, ii, nm_e ?_⟩
        refine br_f c1 (br_f c2 (br_f c3 (br_t c4 (nm_r hx ⟨iy, br_t z' ⟨iy, nm_e ⟨rfl, rfl, ?_⟩⟩⟩))))
        rw [ey, zb_one]
        exact zb_A_free A hi8 hj8
      · have z' : ¬ ar (nI (i * 8 + j)).toNatClampNeg = 0 := by rw [ey]; exact fun y => z (A1.mpr y)
        exact br_f z (br_f c1 (br_f c2 (br_f c3 (br_t c4 (nm_r hx ⟨iy, br_f z' ⟨rfl, I⟩⟩)))))
    · have e1 : 1 * 64 + i * 8 + j = 64 + i * 8 + j := by omega
      rw [e1] at hx iy ey
      have hn : ¬ (v3 &&& 1) = 0 := by rw [eb]; decide
      refine br_f hn ⟨ii, ?_⟩
      rw [ei]
      by_cases z : (co i &&& zb_bit j) = 0
      · have z' : ar (nI (64 + i * 8 + j)).toNatClampNeg = 0 := by rw [ey]; exact A2.mp z
        refine br_t z ⟨ii, ii, nm_e ?_⟩
        refine br_f c1 (br_f c2 (br_f c3 (br_t c4 (nm_r hx ⟨iy, br_t z' ⟨iy, nm_e ⟨rfl, rfl, ?_⟩⟩⟩))))
        rw [ey, zb_one]
        exact zb_A_costly A hi8 hj8
      · have z' : ¬ ar (nI (64 + i * 8 + j)).toNatClampNeg = 0 := by rw [ey]; exact fun y => z (A2.mpr y)
        exact br_f z (br_f c1 (br_f c2 (br_f c3 (br_t c4 (nm_r hx ⟨iy, br_f z' ⟨rfl, I⟩⟩)))))
  · exact br_f c1 (br_f c2 (br_f c3 (br_f c4 (br_f c1 (br_f c2 (br_f c3 (br_f c4 ⟨rfl, I⟩)))))))
theorem i_vc_run {k : Nat} {u : SX} {v : SY} (I : i_Rel k u v) (hk : k + 4 ≤ 2048) (v1 : Int32) : wpX_run (fun r u' => wpY_run (fun r' v' => r' = r ∧ i_Rel (k + 4) u' v') v v1) u v1 := by
  obtain ⟨fr, co, d, dq⟩ := u
  obtain ⟨fh, ft, ar, d', q⟩ := v
  have ed : d' = d := I.1
  have A : zb_A fr co ar := I.2
  subst ed
  by_cases c1 : v1 < 0
  · exact br_t c1 (br_t c1 ⟨rfl, I⟩)
  by_cases c2 : v1 ≤ 7
  · obtain ⟨w, hw, rfl⟩ := nI_of2 (n := 7) (by decide) c1 c2
    have hw8 : w < 8 := by omega
    obtain ⟨r, fh9, ft9, d9, dq9, q9, X9, Y9⟩ := zb_outer A 57 (by omega) 0 1 64 _ _ _ _ 0 (zb_start d' dq q hw8 (zb_sh w))
    refine br_f c1 (br_t c2 ?_)
    have LX := zb_x14 hw8 (X9 (fun r u' => wpY_run (fun r' v' => r' = r ∧ i_Rel (k + 4) u' v') (fh, ft, ar, d', q) (nI w)) ?_) 8 0 rfl
    · rw [zb_cl0] at LX
      exact ⟨9, LX⟩
    · refine br_f c1 (br_t c2 (zb_ywclear ?_))
      refine ⟨vp_in_nI hw8 (by decide), nm_r (zb_upd (k := w) (y' := 0) rfl (by omega) zb_b0) (nm_r (e' := nI (64 + 1)) (by decide) ⟨vp_in_iff.mpr (by decide), ?_⟩)⟩
      exact nm_r (zb_upd (k := 64) (y' := zb_sh w) (by decide) (by omega) rfl) ⟨58, Y9 _ ⟨rfl, rfl, A⟩⟩
  · exact br_f c1 (br_f c2 (br_f c1 (br_f c2 ⟨rfl, I⟩)))
theorem i_vc_cost {k : Nat} {u : SX} {v : SY} (I : i_Rel k u v) (hk : k + 4 ≤ 2048) (v1 : Int32) : wpX_cost (fun r => wpY_cost (fun r' => r' = r ∧ i_Rel (k + 4) u v) v v1) u v1 := by
  obtain ⟨fr, co, d, dq⟩ := u
  obtain ⟨fh, ft, ar, d', q⟩ := v
  have ed : d' = d := I.1
  subst ed
  by_cases c1 : v1 < 0
  · exact br_t c1 (br_t c1 ⟨rfl, I⟩)
  by_cases c2 : v1 ≤ 7
  · have c3 : ¬ 7 < v1 := Int32.not_lt.mpr c2
    have ii : vp_in v1 8 := by
      obtain ⟨w, hw, rfl⟩ := nI_of2 (n := 7) (by decide) c1 c2
      exact vp_in_nI (by omega) (by decide)
    by_cases z : d' v1.toNatClampNeg = 8
    · exact br_f c1 (br_t c2 ⟨ii, nm_e (br_t z (br_f c1 (br_f c3 ⟨ii, br_t z ⟨rfl, I⟩⟩)))⟩)
    · exact br_f c1 (br_t c2 ⟨ii, nm_e (br_f z (br_f c1 (br_f c3 ⟨ii, br_f z ⟨ii, rfl, I⟩⟩)))⟩)
  · have c3 : 7 < v1 := Int32.not_le.mp c2
    exact br_f c1 (br_f c2 (br_f c1 (br_t c3 ⟨rfl, I⟩)))
end
