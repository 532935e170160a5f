section
/-! bits of an Int32 (rows of laws/BITS.to-paste, renamed), one bit read and flipped -/
def od_bt (x : Int32) (i : Nat) : Bool := x.toBitVec.getLsbD i
theorem od_band (x y : Int32) (i : Nat) : od_bt (x &&& y) i = (od_bt x i && od_bt y i) := by unfold od_bt; rw [Int32.toBitVec_and, BitVec.getLsbD_and]
theorem od_bxor (x y : Int32) (i : Nat) : od_bt (x ^^^ y) i = (od_bt x i ^^ od_bt y i) := by unfold od_bt; rw [Int32.toBitVec_xor, BitVec.getLsbD_xor]
theorem od_sl : ∀ n, n < 32 → ((nI n &&& 31).toBitVec.smod 32).toNat = n := by decide +kernel
theorem od_su : ∀ n, n < 32 → (((nI n).toUInt32 &&& Int32.toUInt32 31).toBitVec % 32).toNat = n := by decide +kernel
theorem od_ushr (n : Nat) (hn : n < 32) (x : Int32) (i : Nat) : od_bt ((x.toUInt32 >>> ((nI n).toUInt32 &&& Int32.toUInt32 31)).toInt32) i = od_bt x (n + i) := by
  show (x.toUInt32 >>> ((nI n).toUInt32 &&& Int32.toUInt32 31)).toBitVec.getLsbD i = x.toUInt32.toBitVec.getLsbD (n + i)
  rw [UInt32.toBitVec_shiftRight]
  show (x.toUInt32.toBitVec >>> (((nI n).toUInt32 &&& Int32.toUInt32 31).toBitVec % 32).toNat).getLsbD i = _
  rw [od_su n hn, BitVec.getLsbD_ushiftRight]
theorem od_sshr (n : Nat) (hn : n < 32) (x : Int32) {i : Nat} (hi : i < 32) : od_bt (x >>> (nI n &&& 31)) i = if n + i < 32 then od_bt x (n + i) else od_bt x 31 := by
  unfold od_bt
  rw [Int32.toBitVec_shiftRight]
  show (x.toBitVec.sshiftRight ((nI n &&& 31).toBitVec.smod 32).toNat).getLsbD i = _
  rw [od_sl n hn, BitVec.getLsbD_sshiftRight, BitVec.msb_eq_getLsbD_last]
  simp [hi]
/-- the lowest bit as a number -/
theorem od_a1 (x : Int32) : x &&& 1 = if od_bt x 0 = true then 1 else 0 := by
  apply Int32.toBitVec_inj.1
  rw [Int32.toBitVec_and]
  show x.toBitVec &&& 1#32 = _
  rw [BitVec.and_one_eq_setWidth_ofBool_getLsbD]
  unfold od_bt
  cases x.toBitVec.getLsbD 0
  · rfl
  · rfl
theorem od_ub (x : Int32) {k : Nat} (hk : k < 32) : (x.toUInt32 >>> ((nI k).toUInt32 &&& Int32.toUInt32 31)).toInt32 &&& 1 = if od_bt x k = true then 1 else 0 := by
  rw [od_a1, od_ushr k hk, Nat.add_zero]
theorem od_sb (x : Int32) {k : Nat} (hk : k < 32) : (x >>> (nI k &&& 31)) &&& 1 = if od_bt x k = true then 1 else 0 := by
  rw [od_a1, od_sshr k hk x (by omega), Nat.add_zero, if_pos hk]
theorem od_one : ∀ k, k < 32 → od_bt ((1 : Int32) <<< (nI k &&& 31)) k = true := by decide +kernel
/-- a bit read unsigned out of T is the bit read signed out of x, where T and x agree at it -/
theorem od_val {T x : Int32} {k : Nat} (hk : k < 32) (h : od_bt T k = od_bt x k) : (T.toUInt32 >>> ((nI k).toUInt32 &&& Int32.toUInt32 31)).toInt32 &&& 1 = (x >>> (nI k &&& 31)) &&& 1 := by
  rw [od_ub T hk, od_sb x hk, h]
/-- and flipped -/
theorem od_flp {T x : Int32} {k : Nat} (hk : k < 32) (h : od_bt T k = od_bt x k) : ((T ^^^ ((1 : Int32) <<< (nI k &&& 31))).toUInt32 >>> ((nI k).toUInt32 &&& Int32.toUInt32 31)).toInt32 &&& 1 = 1 - ((x >>> (nI k &&& 31)) &&& 1) := by
  rw [od_ub _ hk, od_sb x hk, od_bxor, od_one k hk, h]
  cases od_bt x k
  · decide
  · decide
/-- powers of two -/
theorem od_pw : ∀ n, n < 6 → (1 : Int32) <<< (nI n &&& 31) = nI (2 ^ n) := by decide +kernel
theorem od_full : ∀ n, n < 6 → ((1 : Int32) <<< (nI n &&& 31)) - 1 = nI (2 ^ n - 1) := by decide +kernel
theorem od_p32 : ∀ n, n < 6 → 1 ≤ 2 ^ n ∧ 2 ^ n ≤ 32 := by decide +kernel
/-- the mask of a table of n < 5 variables holds every bit below 2 ^ n -/
theorem od_mask : ∀ n, n < 5 → ∀ k, k < 2 ^ n → od_bt (((1 : Int32) <<< (((1 : Int32) <<< (nI n &&& 31)) &&& 31)) - 1) k = true := by decide +kernel
theorem od_cl0 : (0 : Int32).toNatClampNeg = 0 := rfl
theorem od_fill {s : Nat → Int32} {i : Nat} (hi : i < 5) (h : ∀ j, j < i → s j = nI j) : ∀ j, j < i + 1 → upd s (nI i).toNatClampNeg (nI i) j = nI j := by
  intro j hj
  rw [nI_clamp (show i < 2 ^ 31 by omega)]
  by_cases e : j = i
  · rw [e, pk_us]
  · rw [pk_un e]
    exact h j (by omega)
end
section
/-! one lemma a method -/
section
variable {n N mc ms : Nat} {x1 x2 x3 x7 x8 x kn fd : Int32} {a1 a2 a3 a4 a5 a6 a7 : Nat → Int32}
/-- the constructor: n, 2 ^ n - 1, an empty table, the identity order -/
theorem od_init {post : St2 → Prop} {g1 g2 : Int32} (hn : n < 6) (hmc : 7 ≤ mc) (hms : 328 ≤ ms)
    (H : ∀ a2 : Nat → Int32, (∀ j, j < 5 → a2 j = nI j) → post (nI n, nI (2 ^ n - 1), kn, fd, (fun _ => 0), a2, (fun _ => 0), (fun _ => 0), (fun _ => 0), (fun _ => 0), (fun _ => 0))) :
    wX_init_24 post mc ms (nI n) 0 0 g1 g2 kn fd := by
  unfold wX_init_24
  refine nm_r (od_full n hn) ⟨by omega, by omega, by omega, by omega, by omega, by omega, by omega, by omega, by omega, by omega, by omega, by omega, by omega, by omega, ?_⟩
  exact pk_loop (fun m i s => wX_init_96 post mc ms (0 + 7) (0 + 328) (nI n) (nI (2 ^ n - 1)) kn fd m (nI i) (fun _ => 0) s (fun _ => 0) (fun _ => 0) (fun _ => 0) (fun _ => 0) (fun _ => 0))
    (fun i s => ∀ j, j < i → s j = nI j) 5 0 (fun _ => 0) (by omega) (fun j hj => absurd hj (by omega))
    (fun m s h => pk_le 5 5 (fun _ => H s h) (fun z => absurd z (by omega)))
    (fun m i s hi h hw => pk_le 5 i (fun z => absurd z (by omega)) (fun _ => ⟨pk_in i 5 hi, nm_e (nm_r (nI_1 i) (hw _ (od_fill hi h)))⟩))
/-- what the flags x7 (the function is one of three), x8 (the assignment is in range) say, and the table beside them -/
def od_G (N : Nat) (x1 x2 x3 x7 x8 : Int32) (a1 : Nat → Int32) : Prop :=
  (x7 ≠ 0 ∧ x8 ≠ 0 ∧ ∃ f k : Nat, f < 3 ∧ k < N ∧ x1 = nI f ∧ x3 = nI k ∧ od_bt (a1 f) k = od_bt x2 k) ∨
  ((x7 = 0 ∨ x8 = 0) ∧ (x1 < 0 ∨ 2 < x1 ∨ x3 < 0 ∨ ¬ x3 ≤ nI (N - 1)))
theorem od_value {post : Int32 → Prop} (hN : N ≤ 32) (G : od_G N x1 x2 x3 x7 x8 a1)
    (H : ∀ r : Int32, (x7 = 0 ∨ x8 = 0 → r = -1) → (x7 ≠ 0 → x8 ≠ 0 → r = (x2 >>> (x3 &&& 31)) &&& 1) → post r) :
    wpX_value post (nI n, nI (N - 1), kn, fd, a1, a2, a3, a4, a5, a6, a7) x1 x3 := by
  unfold wpX_value
  dsimp only
  rcases G with ⟨h7, h8, f, k, hf, hk, rfl, rfl, hb⟩ | ⟨h78, hc⟩
  · refine br_f (nI_pos (by omega)) (br_f (nI_nlt (a := 2) (b := f) (by omega) (by omega)) (br_f (nI_pos (by omega)) (br_t (nI_le (by omega) (by omega)) ⟨vp_in_nI hf (by omega), H _ ?_ ?_⟩)))
    · intro h
      rcases h with h | h
      · exact absurd h h7
      · exact absurd h h8
    · intro _ _
      rw [nI_clamp (show f < 2 ^ 31 by omega)]
      exact od_val (by omega) hb
  · have h : post (-1) := H (-1) (fun _ => rfl) (fun c7 c8 => by
      rcases h78 with h | h
      · exact absurd h c7
      · exact absurd h c8)
    refine br_c (fun _ => h) (fun c1 => br_c (fun _ => h) (fun c2 => br_c (fun _ => h) (fun c3 => br_f ?_ h)))
    rcases hc with c | c | c | c
    · exact absurd c c1
    · exact absurd c c2
    · exact absurd c c3
    · exact c
theorem od_flip {post : Int32 → St2 → Prop} (hN : N ≤ 32) (G : od_G N x1 x2 x3 x7 x8 a1)
    (H : ∀ (r : Int32) (u : St2), (x7 = 0 ∨ x8 = 0 → r = -1) → (x7 ≠ 0 → x8 ≠ 0 → r = 1 - ((x2 >>> (x3 &&& 31)) &&& 1)) → post r u) :
    wpX_flip post (nI n, nI (N - 1), kn, fd, a1, a2, a3, a4, a5, a6, a7) x1 x3 := by
  unfold wpX_flip
  dsimp only
  rcases G with ⟨h7, h8, f, k, hf, hk, rfl, rfl, hb⟩ | ⟨h78, hc⟩
  · refine br_f (nI_pos (by omega)) (br_f (nI_nlt (a := 2) (b := f) (by omega) (by omega)) (br_f (nI_pos (by omega)) (br_t (nI_le (by omega) (by omega)) ⟨vp_in_nI hf (by omega), vp_in_nI hf (by omega), nm_e ⟨vp_in_nI hf (by omega), H _ _ ?_ ?_⟩⟩)))
    · intro h
      rcases h with h | h
      · exact absurd h h7
      · exact absurd h h8
    · intro _ _
      rw [nI_clamp (show f < 2 ^ 31 by omega), pk_us]
      exact od_flp (by omega) hb
  · have h : ∀ u, post (-1) u := fun u => H (-1) u (fun _ => rfl) (fun c7 c8 => by
      rcases h78 with h | h
      · exact absurd h c7
      · exact absurd h c8)
    refine br_c (fun _ => h _) (fun c1 => br_c (fun _ => h _) (fun c2 => br_c (fun _ => h _) (fun c3 => br_f ?_ (h _))))
    rcases hc with c | c | c | c
    · exact absurd c c1
    · exact absurd c c2
    · exact absurd c c3
    · exact c
theorem od_load_f {post : Int32 → St2 → Prop} {f0 f1 : Int32} (h : x1 < 0 ∨ 2 < x1) (H : post (-1) (f0, f1, kn, fd, a1, a2, a3, a4, a5, a6, a7)) :
    wpX_load post (f0, f1, kn, fd, a1, a2, a3, a4, a5, a6, a7) x1 x2 := by
  unfold wpX_load
  dsimp only
  refine br_c (fun _ => H) (fun c => br_f ?_ H)
  rcases h with h | h
  · exact absurd h c
  · exact Int32.not_le.mpr h
theorem od_load_t {post : Int32 → St2 → Prop} {f1 : Int32} {f : Nat} (hn : n < 6) (hf : f < 3)
    (H : ∀ a1' : Nat → Int32, (∀ k, k < 2 ^ n → od_bt (a1' f) k = od_bt x2 k) → post 0 (nI n, f1, 0, fd, a1', a2, a3, a4, a5, a6, a7)) :
    wpX_load post (nI n, f1, kn, fd, a1, a2, a3, a4, a5, a6, a7) (nI f) x2 := by
  unfold wpX_load
  dsimp only
  refine br_f (nI_pos (by omega)) (br_t (nI_le (b := 2) (by omega) (by omega)) (pk_eq n 5 (fun _ => ⟨vp_in_nI hf (by omega), nm_e (H _ (fun k _ => ?_))⟩) (fun z => ⟨vp_in_nI hf (by omega), nm_e (H _ (fun k hk => ?_))⟩)))
  · rw [nI_clamp (show f < 2 ^ 31 by omega), pk_us]
  · rw [nI_clamp (show f < 2 ^ 31 by omega), pk_us, od_band, od_mask n (by omega) k hk, Bool.and_true]
theorem od_rng_f {post : Int32 → Prop} {f1 : Int32} (h : x < 0 ∨ nI n ≤ x) (H : post 0) : wpX_inRange post (nI n, f1, kn, fd, a1, a2, a3, a4, a5, a6, a7) x :=
  br_c (fun _ => H) (fun z => br_t (h.resolve_left z) H)
theorem od_rng_t {post : Int32 → Prop} {f1 : Int32} {p : Nat} (hp : p < n) (hn : n < 6) (H : post 1) : wpX_inRange post (nI n, f1, kn, fd, a1, a2, a3, a4, a5, a6, a7) (nI p) :=
  br_f (nI_pos (by omega)) (br_f (nI_ge hp (by omega)) H)
theorem od_at_f {post : Int32 → Prop} {f1 : Int32} (h : x < 0 ∨ nI n ≤ x) (H : post (-1)) : wpX_at post (nI n, f1, kn, fd, a1, a2, a3, a4, a5, a6, a7) x := by
  unfold wpX_at
  dsimp only
  exact od_rng_f h (br_t rfl H)
theorem od_at_t {post : Int32 → Prop} {f1 : Int32} {p : Nat} (hp : p < n) (hn : n < 6) (H : post (a2 p)) : wpX_at post (nI n, f1, kn, fd, a1, a2, a3, a4, a5, a6, a7) (nI p) := by
  unfold wpX_at
  dsimp only
  rw [nI_clamp (show p < 2 ^ 31 by omega)]
  exact od_rng_t hp hn (br_f (by decide) ⟨vp_in_nI (by omega) (by omega), H⟩)
theorem od_swap_f {post : Int32 → St2 → Prop} {f1 : Int32} (h : x < 0 ∨ nI n ≤ x) (H : post (-1) (nI n, f1, kn, fd, a1, a2, a3, a4, a5, a6, a7)) : wpX_swap post (nI n, f1, kn, fd, a1, a2, a3, a4, a5, a6, a7) x 0 := by
  unfold wpX_swap
  dsimp only
  exact od_rng_f h (br_t rfl H)
theorem od_swap_t {post : Int32 → St2 → Prop} {f1 : Int32} {p : Nat} (hp : p < n) (hn : n < 6) (H : post 0 (nI n, f1, kn, fd, a1, upd (upd a2 p (a2 0)) 0 (a2 p), a3, a4, a5, a6, a7)) :
    wpX_swap post (nI n, f1, kn, fd, a1, a2, a3, a4, a5, a6, a7) (nI p) 0 := by
  have i0 : vp_in 0 5 := vp_in_nI (n := 0) (by omega) (by omega)
  have ip : vp_in (nI p) 5 := vp_in_nI (by omega) (by omega)
  unfold wpX_swap
  dsimp only
  rw [nI_clamp (show p < 2 ^ 31 by omega), od_cl0]
  exact od_rng_t hp hn (br_f (by decide) (od_rng_t (p := 0) (by omega) hn (br_f (by decide) ⟨ip, nm_e ⟨i0, ip, nm_e ⟨i0, nm_e H⟩⟩⟩)))
end
end
section
/-! the law, from its last check backwards -/
section
variable {post : Int32 → St0 → Prop} {n N mc ms kc ks : Nat} {x1 x2 x3 x4 x7 x8 z0 z1 kn fd : Int32} {a1 a2 a3 a4 a5 a6 a7 : Nat → Int32}
theorem od_203 (hp : post 1 ()) (hN : N ≤ 32) (G : od_G N x1 x2 x3 x7 x8 a1) (z : z1 = z0) :
    wL_lawOf_203 post mc ms x1 x2 x3 x7 x8 z0 z1 kc ks (nI n) (nI (N - 1)) kn fd a1 a2 a3 a4 a5 a6 a7 := by
  unfold wL_lawOf_203
  refine br_t z (od_flip hN G (fun r u h1 h2 => ?_))
  obtain ⟨u1, u2, u3, u4, u5, u6, u7, u8, u9, u10, u11⟩ := u
  exact br_c (fun h => br_t (h1 (Or.inl h)) hp) (fun h7 => br_c (fun h => br_t (h1 (Or.inr h)) hp) (fun h8 => br_t (h2 h7 h8) hp))
theorem od_174 (hp : post 1 ()) (h1 : 1 ≤ n) (hn : n < 6) (hN : N ≤ 32) (G : od_G N x1 x2 x3 x7 x8 a1) (z : z1 = z0)
    (h0 : x4 < 0 ∨ nI n ≤ x4 → a2 0 = 0) (hq : ¬ x4 < 0 → ¬ nI n ≤ x4 → a2 0 = x4) :
    wL_lawOf_174 post mc ms x1 x2 x3 x4 (nI n) x7 x8 z0 z1 kc ks (nI n) (nI (N - 1)) kn fd a1 a2 a3 a4 a5 a6 a7 := by
  unfold wL_lawOf_174
  refine br_t z (od_at_t (p := 0) (by omega) hn ?_)
  exact br_c (fun h => od_203 hp hN G (h0 (Or.inl h))) (fun h4 => br_c (fun h => od_203 hp hN G (h0 (Or.inr h))) (fun h5 => od_203 hp hN G (hq h4 h5)))
theorem od_144 (hp : post 1 ()) (h1 : 1 ≤ n) (hn : n < 6) (hN : N ≤ 32) (G : od_G N x1 x2 x3 x7 x8 a1) (ho : ∀ j, j < 5 → a2 j = nI j) (z : z1 = z0) :
    wL_lawOf_144 post mc ms x1 x2 x3 x4 (nI n) x7 x8 z0 z1 kc ks (nI n) (nI (N - 1)) kn fd a1 a2 a3 a4 a5 a6 a7 := by
  unfold wL_lawOf_144
  refine br_t z ?_
  have e0 : a2 0 = 0 := ho 0 (by omega)
  rcases pk_ix x4 (n := n) (by omega) with h | h | ⟨p, hpn, rfl⟩
  · exact od_swap_f (Or.inl h) (br_t h (od_174 hp h1 hn hN G rfl (fun _ => e0) (fun c _ => absurd h c)))
  · have t : wL_lawOf_174 post mc ms x1 x2 x3 x4 (nI n) x7 x8 (-1) (-1) kc ks (nI n) (nI (N - 1)) kn fd a1 a2 a3 a4 a5 a6 a7 := od_174 hp h1 hn hN G rfl (fun _ => e0) (fun _ c => absurd h c)
    exact od_swap_f (Or.inr h) (br_c (fun _ => t) (fun _ => br_t h t))
  · have c1 : ¬ nI p < 0 := nI_pos (by omega)
    have c2 : ¬ nI n ≤ nI p := nI_ge hpn (by omega)
    refine od_swap_t hpn hn (br_f c1 (br_f c2 (od_174 hp h1 hn hN G rfl (fun c => ?_) (fun _ _ => ?_))))
    · rcases c with c | c
      · exact absurd c c1
      · exact absurd c c2
    · rw [pk_us]
      exact ho p (by omega)
theorem od_114 (hp : post 1 ()) (h1 : 1 ≤ n) (hn : n < 6) (hN : N ≤ 32) (G : od_G N x1 x2 x3 x7 x8 a1) (ho : ∀ j, j < 5 → a2 j = nI j) (z : z1 = z0) :
    wL_lawOf_114 post mc ms x1 x2 x3 x4 (nI n) x7 x8 z0 z1 kc ks (nI n) (nI (N - 1)) kn fd a1 a2 a3 a4 a5 a6 a7 := by
  unfold wL_lawOf_114
  refine br_t z ?_
  rcases pk_ix x4 (n := n) (by omega) with h | h | ⟨p, hpn, rfl⟩
  · exact od_at_f (Or.inl h) (br_t h (od_144 hp h1 hn hN G ho rfl))
  · exact od_at_f (Or.inr h) (br_c (fun _ => od_144 hp h1 hn hN G ho rfl) (fun _ => br_t h (od_144 hp h1 hn hN G ho rfl)))
  · exact od_at_t hpn hn (br_f (nI_pos (by omega)) (br_f (nI_ge hpn (by omega)) (od_144 hp h1 hn hN G ho (ho p (by omega)))))
theorem od_83 (hp : post 1 ()) (h1 : 1 ≤ n) (hn : n < 6) (hN : N ≤ 32) (G : od_G N x1 x2 x3 x7 x8 a1) (ho : ∀ j, j < 5 → a2 j = nI j) (z : z1 = z0) :
    wL_lawOf_83 post mc ms x1 x2 x3 x4 (nI n) x7 x8 z0 z1 kc ks (nI n) (nI (N - 1)) kn fd a1 a2 a3 a4 a5 a6 a7 := by
  unfold wL_lawOf_83
  refine br_t z (od_value hN G (fun r g1 g2 => ?_))
  exact br_c (fun h => od_114 hp h1 hn hN G ho (g1 (Or.inl h))) (fun h7 => br_c (fun h => od_114 hp h1 hn hN G ho (g1 (Or.inr h))) (fun h8 => od_114 hp h1 hn hN G ho (g2 h7 h8)))
theorem od_64 (hp : post 1 ()) (h1 : 1 ≤ n) (hn : n < 6) (ho : ∀ j, j < 5 → a2 j = nI j)
    (hF : (x7 = 0 ∧ (x1 < 0 ∨ 2 < x1)) ∨ (x7 ≠ 0 ∧ ∃ f, f < 3 ∧ x1 = nI f))
    (hA : (x8 = 0 ∧ (x3 < 0 ∨ ¬ x3 ≤ nI (2 ^ n - 1))) ∨ (x8 ≠ 0 ∧ ∃ k, k < 2 ^ n ∧ x3 = nI k)) :
    wL_lawOf_64 post mc ms x1 x2 x3 x4 (nI n) x7 x8 kc ks (nI n) (nI (2 ^ n - 1)) kn fd a1 a2 a3 a4 a5 a6 a7 := by
  have hN : 2 ^ n ≤ 32 := (od_p32 n hn).2
  unfold wL_lawOf_64
  rcases hF with ⟨h7, hf⟩ | ⟨h7, f, hf, rfl⟩
  · have G : od_G (2 ^ n) x1 x2 x3 x7 x8 a1 := Or.inr ⟨Or.inl h7, by
      rcases hf with hf | hf
      · exact Or.inl hf
      · exact Or.inr (Or.inl hf)⟩
    exact od_load_f hf (br_t h7 (od_83 hp h1 hn hN G ho rfl))
  · refine od_load_t hn hf (fun a1' hb => br_f h7 (od_83 hp h1 hn hN ?_ ho rfl))
    rcases hA with ⟨h8, hc⟩ | ⟨h8, k, hk, rfl⟩
    · refine Or.inr ⟨Or.inr h8, ?_⟩
      rcases hc with hc | hc
      · exact Or.inr (Or.inr (Or.inl hc))
      · exact Or.inr (Or.inr (Or.inr hc))
    · exact Or.inl ⟨h7, h8, f, k, hf, hk, rfl, rfl, hb k hk⟩
theorem od_45 (hp : post 1 ()) (h1 : 1 ≤ n) (hn : n < 6) (ho : ∀ j, j < 5 → a2 j = nI j)
    (hF : (x7 = 0 ∧ (x1 < 0 ∨ 2 < x1)) ∨ (x7 ≠ 0 ∧ ∃ f, f < 3 ∧ x1 = nI f)) :
    wL_lawOf_45 post mc ms x1 x2 x3 x4 (nI n) x7 kc ks (nI n) (nI (2 ^ n - 1)) kn fd a1 a2 a3 a4 a5 a6 a7 := by
  have hN := od_p32 n hn
  unfold wL_lawOf_45
  rw [od_pw n hn]
  rcases pk_ix x3 (n := 2 ^ n) (by omega) with h | h | ⟨k, hk, rfl⟩
  · exact br_t h (od_64 hp h1 hn ho hF (Or.inl ⟨rfl, Or.inl h⟩))
  · have c : ¬ x3 ≤ nI (2 ^ n - 1) := Int32.not_le.mpr (Int32.lt_of_lt_of_le (nI_lt (by omega) (by omega)) h)
    have t : wL_lawOf_64 post mc ms x1 x2 x3 x4 (nI n) x7 0 kc ks (nI n) (nI (2 ^ n - 1)) kn fd a1 a2 a3 a4 a5 a6 a7 := od_64 hp h1 hn ho hF (Or.inl ⟨rfl, Or.inr c⟩)
    exact br_c (fun _ => t) (fun _ => br_t h t)
  · exact br_f (nI_pos (by omega)) (br_f (nI_ge hk (by omega)) (od_64 hp h1 hn ho hF (Or.inr ⟨by decide, k, hk, rfl⟩)))
theorem od_29 (hp : post 1 ()) (h1 : 1 ≤ n) (hn : n < 6) (ho : ∀ j, j < 5 → a2 j = nI j) :
    wL_lawOf_29 post mc ms x1 x2 x3 x4 (nI n) kc ks (nI n) (nI (2 ^ n - 1)) kn fd a1 a2 a3 a4 a5 a6 a7 := by
  unfold wL_lawOf_29
  refine br_c (fun h => od_45 hp h1 hn ho (Or.inl ⟨rfl, Or.inl h⟩)) (fun c1 => br_c (fun h => od_45 hp h1 hn ho (Or.inl ⟨rfl, Or.inr h⟩)) (fun c2 => ?_))
  obtain ⟨f, hf, rfl⟩ := nI_of2 (x := x1) (M := 2) (n := 2) (by decide) c1 (Int32.not_lt.mp c2)
  exact od_45 hp h1 hn ho (Or.inr ⟨by decide, f, by omega, rfl⟩)
end
theorem od_lawOf {post : Int32 → St0 → Prop} (hp : post 1 ()) (p0 p1 p2 p3 p4 : Int32) : wpL_lawOf post 8 339 () p0 p1 p2 p3 p4 := by
  unfold wpL_lawOf
  refine ⟨by omega, by omega, 7, 328, by omega, by omega, ?_⟩
  unfold wpX_init
  dsimp only
  by_cases h1 : 1 ≤ p0
  · by_cases h5 : p0 ≤ 5
    · have c0 : ¬ p0 < 0 := fun c => absurd (Int32.lt_of_le_of_lt h1 c) (by decide)
      obtain ⟨n, hn, rfl⟩ := nI_of2 (x := p0) (M := 5) (n := 5) (by decide) c0 h5
      have n1 : 1 ≤ n := by
        rcases Nat.eq_zero_or_pos n with e | e
        · rw [e] at h1
          exact absurd h1 (by decide)
        · exact e
      exact br_t h1 (br_t h5 (od_init (by omega) (by omega) (by omega) (fun a2 ho => br_t h1 (br_t h5 (od_29 hp n1 (by omega) ho)))))
    · exact br_t h1 (br_f h5 (od_init (n := 5) (by omega) (by omega) (by omega) (fun a2 ho => br_t h1 (br_f h5 (od_29 (n := 5) hp (by omega) (by omega) ho)))))
  · exact br_f h1 (od_init (n := 1) (by omega) (by omega) (by omega) (fun a2 ho => br_f h1 (od_29 (n := 1) hp (by omega) (by omega) ho)))
theorem od_cell {post : Int32 → Prop} {L : Nat} {xs : Nat → Int32} {u : St0} {i : Nat} (hi : i < 5) (hL : L ≤ 5) (H : ∀ r, post r) : wpL_cellAt post L xs u (nI i) := by
  unfold wpL_cellAt
  exact pk_le L i (fun _ => H _) (fun z => ⟨vp_in_nI z (by omega), H _⟩)
end
section
theorem i_vc (xs : Nat → Int32) (L : Nat) (hL : L ≤ 5) : wpL_law (fun r => r = 1) L xs := by
  unfold wpL_law
  exact od_cell (i := 0) (by omega) hL (fun r1 => od_cell (i := 1) (by omega) hL (fun r2 => od_cell (i := 2) (by omega) hL (fun r3 => od_cell (i := 3) (by omega) hL (fun r4 => od_cell (i := 4) (by omega) hL (fun r5 => ⟨8, 339, by omega, by omega, od_lawOf rfl r1 r2 r3 r4 r5⟩)))))
end
