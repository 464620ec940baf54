section
/-! ===== plain numbers: a value's unsigned picture, its bytes, a key, a key's rank ===== -/
theorem oz_nat_xor {a : Nat} (h : a < 4294967296) : a ^^^ 2 ^ 31 = (a + 2147483648) % 4294967296 := by
  have h1 : (a ^^^ 2 ^ 31) % 2 ^ 31 = a % 2 ^ 31 := by rw [Nat.xor_mod_two_pow, Nat.mod_self, Nat.xor_zero]
  have h2 : (a ^^^ 2 ^ 31) / 2 ^ 31 = (a / 2 ^ 31) ^^^ 1 := by rw [Nat.xor_div_two_pow, Nat.div_self (Nat.two_pow_pos 31)]
  have h3 : a / 2 ^ 31 = 0 ∨ a / 2 ^ 31 = 1 := by omega
  generalize a ^^^ 2 ^ 31 = t at h1 h2
  rcases h3 with h3 | h3
  · rw [h3] at h2
    have h2 : t / 2 ^ 31 = 1 := h2
    omega
  · rw [h3] at h2
    have h2 : t / 2 ^ 31 = 0 := h2
    omega
/-- a value with its sign bit turned, as a natural number -/
def oz_u (v : Int32) : Nat := (v ^^^ (-2147483648)).toBitVec.toNat
theorem oz_u_lt (v : Int32) : oz_u v < 4294967296 := (v ^^^ (-2147483648)).toBitVec.isLt
theorem oz_u_nat (v : Int32) : oz_u v = (v.toBitVec.toNat + 2147483648) % 4294967296 := by
  rw [← oz_nat_xor v.toBitVec.isLt]
  exact BitVec.toNat_xor _ _
theorem oz_u_int (v : Int32) : v.toInt = (oz_u v : Int) - 2147483648 := by
  have h : v.toBitVec.toNat < 4294967296 := v.toBitVec.isLt
  have e : v.toInt = if 2 * v.toBitVec.toNat < 4294967296 then (v.toBitVec.toNat : Int) else (v.toBitVec.toNat : Int) - 4294967296 := BitVec.toInt_eq_toNat_cond _
  rw [e, oz_u_nat]
  generalize v.toBitVec.toNat = t at h
  split <;> omega
theorem oz_u_le {a b : Int32} : a ≤ b ↔ oz_u a ≤ oz_u b := by
  rw [Int32.le_iff_toInt_le, oz_u_int, oz_u_int]
  omega
theorem oz_u_inj {a b : Int32} : a = b ↔ oz_u a = oz_u b := by
  constructor
  · intro h
    rw [h]
  · intro h
    apply Int32.toInt_inj.mp
    rw [oz_u_int, oz_u_int, h]
theorem oz_nI_u (v : Int32) : nI (oz_u v) = v ^^^ (-2147483648) := by
  apply Int32.toBitVec_inj.mp
  show BitVec.ofNat 32 (v ^^^ (-2147483648)).toBitVec.toNat = _
  simp
theorem oz_back (v : Int32) : nI (oz_u v) ^^^ (-2147483648) = v := by
  rw [oz_nI_u, Int32.xor_assoc, Int32.xor_self, Int32.xor_zero]
theorem oz_16 : ∀ b, b < 256 → (nI b).toInt16.toInt32 = nI b := by decide +kernel
theorem oz_nar {b : Nat} (h : b < 256) : vp_nar .short (nI b) = nI b := by
  rw [vp_nar_short, oz_16 b h]
theorem oz_byte {u : Nat} (hu : u < 4294967296) (s : Int32) (k : Nat) (hs : ((s.toUInt32 &&& Int32.toUInt32 31).toBitVec % 32).toNat = k) :
    ((nI u).toUInt32 >>> (s.toUInt32 &&& Int32.toUInt32 31)).toInt32 &&& 255 = nI (u / 2 ^ k % 256) := by
  rw [pk_ushrN hu s k hs]
  exact pk_andN (Nat.lt_of_le_of_lt (Nat.div_le_self _ _) hu) 8 (by decide)
theorem oz_or {x b : Nat} (hb : b < 256) (hx : x < 16777216) : (nI x <<< ((8 : Int32) &&& 31)) ||| nI b = nI (x * 256 + b) := by
  rw [pk_shlN ((8 : Int32) &&& 31) 8 (by decide) (by omega)]
  have h1 : x * 2 ^ 8 ||| b = x * 256 + b := by rw [← Nat.shiftLeft_eq, ← Nat.shiftLeft_add_eq_or_of_lt hb, Nat.shiftLeft_eq]
  rw [← h1]
  apply Int32.toBitVec_inj.mp
  show BitVec.ofNat 32 (x * 2 ^ 8) ||| BitVec.ofNat 32 b = BitVec.ofNat 32 (x * 2 ^ 8 ||| b)
  apply BitVec.eq_of_getLsbD_eq
  intro i hi
  simp [hi]
/-- a byte, turned round in a descending field -/
def oz_t (d : Bool) (x : Nat) : Nat := match d with
  | true => 255 - x
  | false => x
theorem oz_t_lt {d : Bool} {x : Nat} (h : x < 256) : oz_t d x < 256 := by
  cases d
  · exact h
  · show 255 - x < 256
    omega
theorem oz_tt {d : Bool} {x : Nat} (h : x < 256) : oz_t d (oz_t d x) = x := by
  cases d
  · rfl
  · show 255 - (255 - x) = x
    omega
/-- the bytes of a value's key -/
def oz_b (d : Bool) (v : Int32) (j : Nat) : Nat := oz_t d (oz_u v / 2 ^ (24 - 8 * j) % 256)
theorem oz_b_lt (d : Bool) (v : Int32) (j : Nat) : oz_b d v j < 256 := oz_t_lt (Nat.mod_lt _ (by decide))
/-- a key: d descending, f nulls first, z null -/
def oz_k (d f z : Bool) (v : Int32) : Nat → Nat
  | 0 => match z, f with
    | true, true => 0
    | true, false => 2
    | false, _ => 1
  | j + 1 => oz_b d v j
/-- a key's length -/
def oz_n (z : Bool) : Nat := match z with
  | true => 1
  | false => 5
theorem oz_n_le (z : Bool) : oz_n z ≤ 5 := by cases z <;> decide
theorem oz_k_lt (d f z : Bool) (v : Int32) (j : Nat) : oz_k d f z v j < 256 := by
  cases j with
  | zero => cases z <;> cases f <;> simp [oz_k]
  | succ j => exact oz_b_lt d v j
/-- a key's rank among the keys -/
def oz_R (d f z : Bool) (v : Int32) : Nat := match z, f, d with
  | true, true, _ => 0
  | true, false, _ => 8589934592
  | false, _, false => 1 + oz_u v
  | false, _, true => 1 + (4294967295 - oz_u v)
/-- an answer's sign says how two ranks stand -/
def oz_sg (r : Int32) (a b : Nat) : Prop := (r.toInt < 0 ↔ a < b) ∧ (r.toInt = 0 ↔ a = b)
theorem oz_sub0 {x y : Nat} (hx : x < 256) (hy : y < 256) : nI x - nI y = 0 ↔ x = y := by
  rw [← Int32.toInt_inj, pk_sub_toInt (by omega) (by omega)]
  show _ = (0 : Int) ↔ _
  omega
theorem oz_lex {u w : Nat} (hu : u < 4294967296) (hw : w < 4294967296) {i : Nat} (hi : i < 4)
    (h : ∀ j, j < i → u / 2 ^ (24 - 8 * j) % 256 = w / 2 ^ (24 - 8 * j) % 256)
    (g : u / 2 ^ (24 - 8 * i) % 256 < w / 2 ^ (24 - 8 * i) % 256) : u < w := by
  have e : i = 0 ∨ i = 1 ∨ i = 2 ∨ i = 3 := by omega
  rcases e with e | e | e | e
  · subst e
    have g' : u / 16777216 % 256 < w / 16777216 % 256 := g
    omega
  · subst e
    have h0 : u / 16777216 % 256 = w / 16777216 % 256 := h 0 (by omega)
    have g' : u / 65536 % 256 < w / 65536 % 256 := g
    omega
  · subst e
    have h0 : u / 16777216 % 256 = w / 16777216 % 256 := h 0 (by omega)
    have h1 : u / 65536 % 256 = w / 65536 % 256 := h 1 (by omega)
    have g' : u / 256 % 256 < w / 256 % 256 := g
    omega
  · subst e
    have h0 : u / 16777216 % 256 = w / 16777216 % 256 := h 0 (by omega)
    have h1 : u / 65536 % 256 = w / 65536 % 256 := h 1 (by omega)
    have h2 : u / 256 % 256 = w / 256 % 256 := h 2 (by omega)
    have g' : u / 1 % 256 < w / 1 % 256 := g
    omega
theorem oz_all {u w : Nat} (hu : u < 4294967296) (hw : w < 4294967296) (h : ∀ j, j < 4 → u / 2 ^ (24 - 8 * j) % 256 = w / 2 ^ (24 - 8 * j) % 256) : u = w := by
  have h0 : u / 16777216 % 256 = w / 16777216 % 256 := h 0 (by omega)
  have h1 : u / 65536 % 256 = w / 65536 % 256 := h 1 (by omega)
  have h2 : u / 256 % 256 = w / 256 % 256 := h 2 (by omega)
  have h3 : u / 1 % 256 = w / 1 % 256 := h 3 (by omega)
  omega
/-- two bytes, turned or not, that are alike -/
theorem oz_t_eq {d : Bool} {x y : Nat} (hx : x < 256) (hy : y < 256) (h : oz_t d x = oz_t d y) : x = y := by
  rw [← oz_tt (d := d) hx, h, oz_tt hy]
theorem oz_m (u i : Nat) : u / 2 ^ i % 256 < 256 := Nat.mod_lt _ (by decide)
/-- the first byte that differs says how the ranks stand -/
theorem oz_lexR {d f : Bool} {w v : Int32} {i : Nat} (hi : i < 5) (h : ∀ j, j < i → oz_k d f false w j = oz_k d f false v j)
    (g : oz_k d f false w i < oz_k d f false v i) : oz_R d f false w < oz_R d f false v := by
  cases i with
  | zero => exact absurd g (Nat.lt_irrefl 1)
  | succ i =>
    have h' : ∀ j, j < i → oz_u w / 2 ^ (24 - 8 * j) % 256 = oz_u v / 2 ^ (24 - 8 * j) % 256 := fun j hj => oz_t_eq (d := d) (oz_m _ _) (oz_m _ _) (h (j + 1) (by omega))
    have g' : oz_t d (oz_u w / 2 ^ (24 - 8 * i) % 256) < oz_t d (oz_u v / 2 ^ (24 - 8 * i) % 256) := g
    have lw := oz_u_lt w
    have lv := oz_u_lt v
    cases d with
    | false =>
      have r := oz_lex lw lv (by omega) h' g'
      show 1 + oz_u w < 1 + oz_u v
      omega
    | true =>
      have g2 : 255 - oz_u w / 2 ^ (24 - 8 * i) % 256 < 255 - oz_u v / 2 ^ (24 - 8 * i) % 256 := g'
      have r := oz_lex lv lw (by omega) (fun j hj => (h' j hj).symm) (by omega)
      show 1 + (4294967295 - oz_u w) < 1 + (4294967295 - oz_u v)
      omega
theorem oz_allR {d f : Bool} {w v : Int32} (h : ∀ j, j < 5 → oz_k d f false w j = oz_k d f false v j) : oz_R d f false w = oz_R d f false v := by
  have e : w = v := oz_u_inj.mpr (oz_all (oz_u_lt w) (oz_u_lt v) (fun j hj => oz_t_eq (d := d) (oz_m _ _) (oz_m _ _) (h (j + 1) (by omega))))
  rw [e]
theorem oz_sgd {d f z : Bool} {w v : Int32} {i : Nat} (hi : i < oz_n z) (h : ∀ j, j < i → oz_k d f false w j = oz_k d f z v j)
    (g : oz_k d f false w i ≠ oz_k d f z v i) : oz_sg (nI (oz_k d f false w i) - nI (oz_k d f z v i)) (oz_R d f false w) (oz_R d f z v) := by
  cases z with
  | true =>
    have e : i = 0 := by
      have e' : i < 1 := hi
      omega
    subst e
    have lw := oz_u_lt w
    have R1 : 1 ≤ oz_R d f false w ∧ oz_R d f false w ≤ 4294967296 := by
      cases d with
      | false =>
        show 1 ≤ 1 + oz_u w ∧ 1 + oz_u w ≤ 4294967296
        omega
      | true =>
        show 1 ≤ 1 + (4294967295 - oz_u w) ∧ 1 + (4294967295 - oz_u w) ≤ 4294967296
        omega
    cases f with
    | true =>
      have s1 : (nI (oz_k d true false w 0) - nI (oz_k d true true v 0)).toInt = 1 := by
        show (nI 1 - nI 0).toInt = 1
        decide
      unfold oz_sg
      rw [s1]
      show ((1 : Int) < 0 ↔ oz_R d true false w < 0) ∧ ((1 : Int) = 0 ↔ oz_R d true false w = 0)
      omega
    | false =>
      have s1 : (nI (oz_k d false false w 0) - nI (oz_k d false true v 0)).toInt = -1 := by
        show (nI 1 - nI 2).toInt = -1
        decide
      unfold oz_sg
      rw [s1]
      show ((-1 : Int) < 0 ↔ oz_R d false false w < 8589934592) ∧ ((-1 : Int) = 0 ↔ oz_R d false false w = 8589934592)
      omega
  | false =>
    have l1 := oz_k_lt d f false w i
    have l2 := oz_k_lt d f false v i
    unfold oz_sg
    rw [pk_sub_toInt (by omega) (by omega)]
    rcases Nat.lt_or_ge (oz_k d f false w i) (oz_k d f false v i) with c | c
    · have r := oz_lexR hi h c
      omega
    · have r := oz_lexR (w := v) (v := w) hi (fun j hj => (h j hj).symm) (by omega)
      omega
theorem oz_sge {d f z : Bool} {w v : Int32} (h : ∀ j, j < oz_n z → oz_k d f false w j = oz_k d f z v j) : z = false ∧ oz_sg 0 (oz_R d f false w) (oz_R d f z v) := by
  cases z with
  | true =>
    have h0 := h 0 (by decide)
    cases f with
    | true => exact absurd (show 1 = 0 from h0) (by decide)
    | false => exact absurd (show 1 = 2 from h0) (by decide)
  | false =>
    have e := oz_allR h
    refine ⟨rfl, ?_⟩
    unfold oz_sg
    rw [e]
    show ((0 : Int) < 0 ↔ _) ∧ ((0 : Int) = 0 ↔ _)
    omega
/-- the four bytes read back -/
theorem oz_read {d : Bool} (v : Int32) : ((oz_t d (oz_b d v 0) * 256 + oz_t d (oz_b d v 1)) * 256 + oz_t d (oz_b d v 2)) * 256 + oz_t d (oz_b d v 3) = oz_u v := by
  unfold oz_b
  rw [oz_tt (oz_m _ _), oz_tt (oz_m _ _), oz_tt (oz_m _ _), oz_tt (oz_m _ _)]
  have l := oz_u_lt v
  show ((oz_u v / 16777216 % 256 * 256 + oz_u v / 65536 % 256) * 256 + oz_u v / 256 % 256) * 256 + oz_u v / 1 % 256 = oz_u v
  omega
end
section
/-! ===== the walks, first half: the schema's bits, the stage, the encoding ===== -/
/-- the schema's bits of field 0: no text; d descending, f nulls first -/
def oz_K (K : Int32) (d f : Bool) : Prop := (¬ ((K >>> ((4 * (0 : Int32)) &&& 31)) &&& 1) = 1) ∧ (((K >>> ((4 * (0 : Int32)) &&& 31)) &&& 2) = 2 ↔ d = true) ∧ (((K >>> ((4 * (0 : Int32)) &&& 31)) &&& 4) = 4 ↔ f = true)
/-- a truth value as the machine's int -/
def oz_i (b : Bool) : Int32 := match b with
  | true => 1
  | false => 0
theorem oz_z4 : vp_in (0 : Int32) 4 := vp_in_iff.mpr (by decide)
theorem oz_z20 : vp_in (0 : Int32) 20 := vp_in_iff.mpr (by decide)
section
variable {K e r q : Int32} {a1 a2 a3 a4 a5 a6 a7 a8 a9 a10 : Nat → Int32} {d f : Bool}
theorem oz_bad {post : Int32 → Prop} (h : post 0) : wpX_badField post (1, K, e, q, r, a1, a2, a3, a4, a5, a6, a7, a8, a9, a10) 0 :=
  br_f (by decide) (br_t (by decide) h)
theorem oz_tx {post : Int32 → Prop} (hK : oz_K K d f) (h : post 0) : wpX_isText post (1, K, e, q, r, a1, a2, a3, a4, a5, a6, a7, a8, a9, a10) 0 :=
  br_f hK.1 h
theorem oz_nf {post : Int32 → Prop} (hK : oz_K K d f) (h : post (oz_i f)) : wpX_nullsFirst post (1, K, e, q, r, a1, a2, a3, a4, a5, a6, a7, a8, a9, a10) 0 := by
  cases f with
  | true => exact br_t (hK.2.2.mpr rfl) h
  | false => exact br_f (fun z => absurd (hK.2.2.mp z) (by decide)) h
theorem oz_de {post : Int32 → Prop} (hK : oz_K K d f) (h : post (oz_i d)) : wpX_descending post (1, K, e, q, r, a1, a2, a3, a4, a5, a6, a7, a8, a9, a10) 0 := by
  cases d with
  | true => exact br_t (hK.2.1.mpr rfl) h
  | false => exact br_f (fun z => absurd (hK.2.1.mp z) (by decide)) h
theorem oz_setInt {post : Int32 → St2 → Prop} {v : Int32} (hK : oz_K K d f) (h : post 0 (1, K, e, q, r, upd a1 0 0, upd a2 0 v, a3, a4, a5, a6, a7, a8, a9, a10)) :
    wpX_setInt post (1, K, e, q, r, a1, a2, a3, a4, a5, a6, a7, a8, a9, a10) 0 v := by
  unfold wpX_setInt
  dsimp only
  refine oz_bad (br_t rfl (oz_tx hK (br_t rfl ⟨oz_z4, nm_r (e' := upd a1 0 0) (by rw [sb_cl0]) ⟨oz_z4, nm_r (e' := upd a2 0 v) (by rw [sb_cl0]) h⟩⟩)))
theorem oz_setNull {post : Int32 → St2 → Prop} (h : post 0 (1, K, e, q, r, upd a1 0 1, a2, a3, a4, a5, a6, a7, a8, a9, a10)) :
    wpX_setNull post (1, K, e, q, r, a1, a2, a3, a4, a5, a6, a7, a8, a9, a10) 0 := by
  unfold wpX_setNull
  dsimp only
  refine oz_bad (br_t rfl ⟨oz_z4, nm_r (e' := upd a1 0 1) (by rw [sb_cl0]) h⟩)
theorem oz_emit {post : St2 → Prop} {p b : Nat} {x : Int32} (hp : p < 64) (hb : b < 256) (hx : x = nI b)
    (h : post (1, K, e, nI (p + 1), r, a1, a2, a3, a4, a5, a6, a7, a8, a9, upd a10 p (nI b))) : wpX_emit post (1, K, e, nI p, r, a1, a2, a3, a4, a5, a6, a7, a8, a9, a10) x := by
  unfold wpX_emit
  dsimp only
  exact br_t (nI_lt (b := 64) hp (by decide)) ⟨pk_in p 64 hp, nm_r (e' := upd a10 p (nI b)) (by rw [nI_clamp (by omega), hx, oz_16 b hb]) (nm_r (nI_1 p) h)⟩
theorem oz_turn {post : St2 → Prop} {p b : Nat} {x : Int32} (hK : oz_K K d f) (hp : p < 64) (hb : b < 256) (hx : x = nI b)
    (h : post (1, K, e, nI (p + 1), r, a1, a2, a3, a4, a5, a6, a7, a8, a9, upd a10 p (nI (oz_t d b)))) : wpX_emitTurned post (1, K, e, nI p, r, a1, a2, a3, a4, a5, a6, a7, a8, a9, a10) x 0 := by
  unfold wpX_emitTurned
  dsimp only
  refine oz_de hK ?_
  cases d with
  | true =>
    refine br_f (by decide) ?_
    unfold wX_emitTurned_20
    exact oz_emit (b := 255 - b) hp (by omega) (by rw [hx]; exact pk_sub (a := 255) (by omega)) h
  | false =>
    refine br_t rfl ?_
    unfold wX_emitTurned_20
    exact oz_emit hp hb hx h
theorem oz_eint {post : St2 → Prop} {p : Nat} (hK : oz_K K d f) (hp : p + 4 ≤ 64)
    (h : ∀ a, (∀ j, j < p → a j = a10 j) → (∀ j, j < 4 → a (p + j) = nI (oz_b d (a2 0) j)) → post (1, K, e, nI (p + 4), r, a1, a2, a3, a4, a5, a6, a7, a8, a9, a)) :
    wpX_emitInt post (1, K, e, nI p, r, a1, a2, a3, a4, a5, a6, a7, a8, a9, a10) 0 := by
  unfold wpX_emitInt
  dsimp only
  refine ⟨oz_z4, nm_r (e' := nI (oz_u (a2 0))) (by rw [sb_cl0, oz_nI_u]) ⟨5, ?_⟩⟩
  have hu := oz_u_lt (a2 0)
  unfold wX_emitInt_13
  refine br_f (by decide) (oz_turn hK (by omega) (oz_m _ 24) (oz_byte hu 24 24 (by decide)) (nm_r (e' := 16) (by decide) ?_))
  unfold wX_emitInt_13
  refine br_f (by decide) (oz_turn hK (by omega) (oz_m _ 16) (oz_byte hu 16 16 (by decide)) (nm_r (e' := 8) (by decide) ?_))
  unfold wX_emitInt_13
  refine br_f (by decide) (oz_turn hK (by omega) (oz_m _ 8) (oz_byte hu 8 8 (by decide)) (nm_r (e' := 0) (by decide) ?_))
  unfold wX_emitInt_13
  refine br_f (by decide) (oz_turn hK (by omega) (oz_m _ 0) (oz_byte hu 0 0 (by decide)) (nm_r (e' := -8) (by decide) ?_))
  unfold wX_emitInt_13
  refine br_t (by decide) (h _ (fun j hj => ?_) (fun j hj => ?_))
  · rw [pk_un (by omega), pk_un (by omega), pk_un (by omega), pk_un (by omega)]
  · have c : j = 0 ∨ j = 1 ∨ j = 2 ∨ j = 3 := by omega
    rcases c with c | c | c | c
    · subst c
      rw [pk_un (by omega), pk_un (by omega), pk_un (by omega)]
      exact pk_us
    · subst c
      rw [pk_un (by omega), pk_un (by omega)]
      exact pk_us
    · subst c
      rw [pk_un (by omega)]
      exact pk_us
    · subst c
      exact pk_us
theorem oz_enc {post : St2 → Prop} {z : Bool} {v : Int32} (hK : oz_K K d f) (hz : a1 0 = oz_i z) (hv : a2 0 = v)
    (h : ∀ a, (∀ j, j < oz_n z → a j = nI (oz_k d f z v j)) → post (1, K, e, nI (oz_n z), r, a1, a2, a3, a4, a5, a6, a7, a8, a9, a)) :
    wpX_encode post (1, K, e, q, r, a1, a2, a3, a4, a5, a6, a7, a8, a9, a10) 1 := by
  subst hv
  unfold wpX_encode
  dsimp only
  refine ⟨2, ?_⟩
  unfold wX_encode_7
  refine br_f (by decide) (oz_nf hK (oz_tx hK ⟨oz_z4, ?_⟩))
  cases z with
  | false =>
    refine br_t (by rw [sb_cl0]; exact hz) (oz_emit (p := 0) (b := 1) (by decide) (by decide) rfl (br_t rfl (oz_eint (p := 1) hK (by decide) (fun a ha hb => nm_r (e' := 1) (by decide) ?_))))
    unfold wX_encode_7
    refine br_t (by decide) (h a (fun j hj => ?_))
    cases j with
    | zero =>
      rw [ha 0 (by decide)]
      exact pk_us
    | succ j =>
      rw [Nat.add_comm j 1]
      have hj' : j + 1 < 5 := hj
      rw [hb j (by omega), Nat.add_comm 1 j]
      rfl
  | true =>
    refine br_f (by rw [sb_cl0, hz]; decide) ?_
    have fin : ∀ b : Nat, b = oz_k d f true (a2 0) 0 → ∀ x : Int32, x = nI b → wX_encode_44 post (wX_encode_7 post 1 1) 1 0 x 1 K e 0 r a1 a2 a3 a4 a5 a6 a7 a8 a9 a10 := by
      intro b hb x hx
      unfold wX_encode_44
      refine oz_emit (p := 0) (b := b) (by decide) (by rw [hb]; exact oz_k_lt _ _ _ _ _) hx (nm_r (e' := 1) (by decide) ?_)
      unfold wX_encode_7
      refine br_t (by decide) (h _ (fun j hj => ?_))
      have j0 : j = 0 := by
        have hj' : j < 1 := hj
        omega
      subst j0
      rw [← hb]
      exact pk_us
    cases f with
    | true => exact br_f (by decide) (fin 0 rfl _ rfl)
    | false => exact br_t rfl (fin 2 rfl _ rfl)
end
end
section
/-! ===== the walks, second half: comparing, searching, storing ===== -/
theorem oz_ix (p i : Nat) : nI p * 64 + nI i = nI (p * 64 + i) := by
  show nI p * nI 64 + nI i = _
  rw [pk_mul, nI_add]
section
variable {K e r q : Int32} {a1 a2 a3 a4 a5 a6 a7 a8 a9 a10 : Nat → Int32} {d f : Bool}
/-- the stored key of place 0 against the probe -/
theorem oz_cmp {post : Int32 → Prop} {z : Bool} {w v x1 x2 : Int32} (hx : x1 = 0) (h8 : a8 0 = nI 5) (h9 : ∀ j, j < 5 → a9 j = nI (oz_k d f false w j))
    (h10 : ∀ j, j < oz_n z → a10 j = nI (oz_k d f z v j)) (h : ∀ c, oz_sg c (oz_R d f false w) (oz_R d f z v) → post c) :
    wpX_compare post (1, K, e, nI (oz_n z), r, a1, a2, a3, a4, a5, a6, a7, a8, a9, a10) x1 x2 := by
  subst hx
  unfold wpX_compare
  dsimp only
  have N5 := oz_n_le z
  refine ⟨oz_z20, nm_r (e' := nI 5) (by rw [sb_cl0]; exact h8) ?_⟩
  refine pk_loop (σ := Unit) (fun n i _ => wX_compare_10 post 0 x2 (nI 5) 1 K e (nI (oz_n z)) r a1 a2 a3 a4 a5 a6 a7 a8 a9 a10 n (nI i)) (fun i _ => ∀ j, j < i → oz_k d f false w j = oz_k d f z v j) (oz_n z) 0 () (Nat.zero_le _) (fun j hj => absurd hj (by omega)) ?_ ?_
  · intro n _ hI
    obtain ⟨hz, hs⟩ := oz_sge hI
    subst hz
    exact br_t (nI_le (Nat.le_refl _) (by decide)) (br_t (nI_le (Nat.le_refl 5) (by decide)) (h 0 hs))
  · intro n i _ hi hI hw
    have e1 : (0 : Int32) * 64 + nI i = nI i := by
      have t := oz_ix 0 i
      rw [Nat.zero_mul, Nat.zero_add] at t
      exact t
    refine br_f (nI_ge hi (by omega)) (br_t (nI_lt (by omega) (by decide)) ⟨?_, pk_in i 64 (by omega), nm_r (e' := nI (oz_k d f false w i) - nI (oz_k d f z v i)) ?_ (br_c (fun g => nm_r (nI_1 i) (hw () ?_)) (fun g => h _ (oz_sgd hi hI ?_)))⟩)
    · rw [e1]
      exact pk_in i 1280 (by omega)
    · rw [e1, nI_clamp (by omega), h9 i (by omega), h10 i hi]
    · exact lt_s hI ((oz_sub0 (oz_k_lt _ _ _ _ _) (oz_k_lt _ _ _ _ _)).mp g)
    · intro g'
      exact g ((oz_sub0 (oz_k_lt _ _ _ _ _) (oz_k_lt _ _ _ _ _)).mpr g')
theorem oz_sg0 {c : Int32} {x y : Nat} (h : oz_sg c x y) : (0 ≤ c ↔ y ≤ x) ∧ (0 < c ↔ y < x) := by
  obtain ⟨h1, h2⟩ := h
  rw [Int32.le_iff_toInt_le, Int32.lt_iff_toInt_lt]
  show ((0 : Int) ≤ _ ↔ _) ∧ ((0 : Int) < _ ↔ _)
  omega
/-- the search over one entry, for the first not below -/
theorem oz_bnd0 {post : Int32 → Prop} {z : Bool} {w v x2 : Int32} (h5 : a5 0 = 0) (h8 : a8 0 = nI 5) (h9 : ∀ j, j < 5 → a9 j = nI (oz_k d f false w j))
    (h10 : ∀ j, j < oz_n z → a10 j = nI (oz_k d f z v j)) (hy : oz_R d f false w < oz_R d f z v → post 1) (hn : oz_R d f z v ≤ oz_R d f false w → post 0) :
    wpX_bound post (1, K, 1, nI (oz_n z), r, a1, a2, a3, a4, a5, a6, a7, a8, a9, a10) 0 x2 := by
  unfold wpX_bound
  dsimp only
  refine ⟨2, ?_⟩
  unfold wX_bound_8
  refine br_f (by decide) ⟨by decide, nm_r (e' := 0) (by decide) ⟨oz_z20, oz_cmp (d := d) (f := f) (z := z) (w := w) (v := v) (by rw [sb_cl0]; exact h5) h8 h9 h10 (fun c hc => br_t rfl ?_)⟩⟩
  have s := (oz_sg0 hc).1
  refine br_c (fun g => ?_) (fun g => ?_)
  · unfold wX_bound_63
    refine br_t rfl ?_
    unfold wX_bound_8
    exact br_t (by decide) (hn (s.mp g))
  · unfold wX_bound_63
    refine br_f (by decide) (nm_r (e' := 1) (by decide) ?_)
    unfold wX_bound_8
    exact br_t (by decide) (hy (Nat.lt_of_not_le (fun t => g (s.mpr t))))
/-- the search over one entry, for the first above -/
theorem oz_bnd1 {post : Int32 → Prop} {z : Bool} {w v x2 : Int32} (h5 : a5 0 = 0) (h8 : a8 0 = nI 5) (h9 : ∀ j, j < 5 → a9 j = nI (oz_k d f false w j))
    (h10 : ∀ j, j < oz_n z → a10 j = nI (oz_k d f z v j)) (hy : oz_R d f false w ≤ oz_R d f z v → post 1) (hn : oz_R d f z v < oz_R d f false w → post 0) :
    wpX_bound post (1, K, 1, nI (oz_n z), r, a1, a2, a3, a4, a5, a6, a7, a8, a9, a10) 1 x2 := by
  unfold wpX_bound
  dsimp only
  refine ⟨2, ?_⟩
  unfold wX_bound_8
  refine br_f (by decide) ⟨by decide, nm_r (e' := 0) (by decide) ⟨oz_z20, oz_cmp (d := d) (f := f) (z := z) (w := w) (v := v) (by rw [sb_cl0]; exact h5) h8 h9 h10 (fun c hc => br_f (by decide) ?_)⟩⟩
  have s := (oz_sg0 hc).2
  refine br_c (fun g => ?_) (fun g => ?_)
  · unfold wX_bound_63
    refine br_t rfl ?_
    unfold wX_bound_8
    exact br_t (by decide) (hn (s.mp g))
  · unfold wX_bound_63
    refine br_f (by decide) (nm_r (e' := 1) (by decide) ?_)
    unfold wX_bound_8
    exact br_t (by decide) (hy (Nat.le_of_not_lt (fun t => g (s.mpr t))))
/-- the search over no entry -/
theorem oz_bndE {post : Int32 → Prop} {x1 x2 : Int32} (h : post 0) : wpX_bound post (1, K, 0, q, r, a1, a2, a3, a4, a5, a6, a7, a8, a9, a10) x1 x2 := by
  unfold wpX_bound
  dsimp only
  refine ⟨1, ?_⟩
  unfold wX_bound_8
  exact br_t (by decide) h
/-- the probe copied to a place's key -/
theorem oz_cp {post : Int32 → St2 → Prop} {x2 x3 : Int32} {n p : Nat} (hx : x3 = nI p) (hn : n ≤ 64) (hp : p < 20)
    (H : ∀ a, (∀ j, j < n → a (p * 64 + j) = vp_nar .short (a10 j)) → (∀ j, j < p * 64 → a j = a9 j) →
      ∃ fu, wX_add_117 post x2 x3 1 K e (nI n) r fu e a1 a2 a3 a4 a5 a6 a7 a8 a a10) :
    ∃ fu, wX_add_77 post x2 x3 1 K e (nI n) r fu 0 a1 a2 a3 a4 a5 a6 a7 a8 a9 a10 := by
  subst hx
  refine pk_loop (fun m i s => wX_add_77 post x2 (nI p) 1 K e (nI n) r m (nI i) a1 a2 a3 a4 a5 a6 a7 a8 s a10) (fun i s => (∀ j, j < i → s (p * 64 + j) = vp_nar .short (a10 j)) ∧ (∀ j, j < p * 64 → s j = a9 j)) n 0 a9 (Nat.zero_le _) ⟨fun j hj => absurd hj (by omega), fun j _ => rfl⟩ ?_ ?_
  · intro m s hI
    exact br_t (nI_le (Nat.le_refl _) (by omega)) (H s hI.1 hI.2)
  · intro m i s hi hI hw
    refine br_f (nI_ge hi (by omega)) ⟨pk_in i 64 (by omega), ?_, nm_r (e' := upd s (p * 64 + i) (vp_nar .short (a10 i))) ?_ (nm_r (nI_1 i) (hw _ ⟨fun j hj => ?_, fun j hj => ?_⟩))⟩
    · rw [oz_ix]
      exact pk_in (p * 64 + i) 1280 (by omega)
    · rw [oz_ix, nI_clamp (by omega), nI_clamp (by omega)]
    · by_cases c : j = i
      · subst c
        exact pk_us
      · rw [pk_un (by omega)]
        exact hI.1 j (by omega)
    · rw [pk_un (by omega)]
      exact hI.2 j hj
/-- the first entry -/
theorem oz_add1 {post : Int32 → St2 → Prop} {v t : Int32} (hK : oz_K K d f) (h1 : a1 0 = 0) (h2 : a2 0 = v) (h6 : a6 0 = 0)
    (h : ∀ b9 b10, (∀ j, j < 5 → b9 j = nI (oz_k d f false v j)) → post 0 (1, K, 1, nI 5, r, a1, a2, a3, a4, upd a5 0 0, upd a6 0 1, upd a7 0 t, upd a8 0 (nI 5), b9, b10)) :
    wpX_add post (1, K, 0, q, r, a1, a2, a3, a4, a5, a6, a7, a8, a9, a10) t := by
  unfold wpX_add
  dsimp only
  refine br_t (by decide) (oz_enc (z := false) (v := v) hK h1 h2 (fun b10 hb => ?_))
  dsimp only
  refine oz_bndE ⟨1, ?_⟩
  unfold wX_add_29
  refine br_f (by decide) ⟨oz_z20, br_t (by rw [sb_cl0]; exact h6) ?_⟩
  unfold wX_add_50
  refine ⟨oz_z20, nm_r (e' := upd a6 0 1) (by rw [sb_cl0]) ⟨oz_z20, nm_r (e' := upd a7 0 t) (by rw [sb_cl0]) ⟨oz_z20, nm_r (e' := upd a8 0 (nI 5)) (by rw [sb_cl0]; rfl) ?_⟩⟩⟩
  refine oz_cp (n := 5) (p := 0) rfl (by decide) (by decide) (fun b9 h9 _ => ⟨1, ?_⟩)
  unfold wX_add_117
  refine br_t (by decide) ⟨oz_z20, nm_r (e' := upd a5 0 0) (by rw [sb_cl0]) (nm_r (e' := 1) (by decide) (h b9 b10 (fun j hj => ?_)))⟩
  have t1 := h9 j hj
  rw [Nat.zero_mul, Nat.zero_add, hb j hj, oz_nar (oz_k_lt _ _ _ _ _)] at t1
  exact t1
theorem oz_z21 : vp_in (1 : Int32) 20 := vp_in_iff.mpr (by decide)
theorem oz_cl1 : (1 : Int32).toNatClampNeg = 1 := by decide
/-- the second entry -/
theorem oz_add2 {post : Int32 → St2 → Prop} {z : Bool} {w v t : Int32} (hK : oz_K K d f) (h1 : a1 0 = oz_i z) (h2 : a2 0 = v) (h5 : a5 0 = 0) (h6 : a6 0 = 1) (h61 : a6 1 = 0)
    (h8 : a8 0 = nI 5) (h9 : ∀ j, j < 5 → a9 j = nI (oz_k d f false w j))
    (h : ∀ c b5 b9 b10, (c = 0 ∧ oz_R d f z v < oz_R d f false w ∨ c = 1 ∧ oz_R d f false w ≤ oz_R d f z v) → b5 c = 1 → b5 (1 - c) = 0 →
      (∀ j, j < 5 → b9 j = nI (oz_k d f false w j)) → (∀ j, j < oz_n z → b9 (64 + j) = nI (oz_k d f z v j)) →
      post (nI c) (1, K, 2, nI (oz_n z), r, a1, a2, a3, a4, b5, upd a6 1 1, upd a7 1 t, upd a8 1 (nI (oz_n z)), b9, b10)) :
    wpX_add post (1, K, 1, q, r, a1, a2, a3, a4, a5, a6, a7, a8, a9, a10) t := by
  unfold wpX_add
  dsimp only
  refine br_t (by decide) (oz_enc (z := z) (v := v) hK h1 h2 (fun b10 hb => ?_))
  dsimp only
  have N5 := oz_n_le z
  have main : ∀ c : Nat, (c = 0 ∧ oz_R d f z v < oz_R d f false w ∨ c = 1 ∧ oz_R d f false w ≤ oz_R d f z v) → ∃ fu, wX_add_29 post t (nI c) 1 K 1 (nI (oz_n z)) r a1 a2 a3 a4 a5 a6 a7 a8 a9 b10 fu 0 := by
    intro c hc
    refine ⟨2, ?_⟩
    unfold wX_add_29
    refine br_f (by decide) ⟨oz_z20, br_f (by rw [sb_cl0, h6]; decide) (nm_r (e' := 1) (by decide) ?_)⟩
    unfold wX_add_29
    refine br_f (by decide) ⟨oz_z21, br_t (by rw [oz_cl1]; exact h61) ?_⟩
    unfold wX_add_50
    refine ⟨oz_z21, nm_r (e' := upd a6 1 1) (by rw [oz_cl1]) ⟨oz_z21, nm_r (e' := upd a7 1 t) (by rw [oz_cl1]) ⟨oz_z21, nm_r (e' := upd a8 1 (nI (oz_n z))) (by rw [oz_cl1]) ?_⟩⟩⟩
    refine oz_cp (n := oz_n z) (p := 1) rfl (by omega) (by decide) (fun b9 g9 k9 => ?_)
    have f1 : ∀ j, j < 5 → b9 j = nI (oz_k d f false w j) := fun j hj => by
      rw [k9 j (by omega)]
      exact h9 j hj
    have f2 : ∀ j, j < oz_n z → b9 (64 + j) = nI (oz_k d f z v j) := fun j hj => by
      have t1 := g9 j hj
      rw [Nat.one_mul, hb j hj, oz_nar (oz_k_lt _ _ _ _ _)] at t1
      exact t1
    rcases hc with ⟨c0, hc⟩ | ⟨c1, hc⟩
    · subst c0
      refine ⟨2, ?_⟩
      unfold wX_add_117
      refine br_f (by decide) ⟨vp_in_iff.mpr (by decide), oz_z21, nm_r (e' := upd a5 1 0) ?_ (nm_r (e' := 0) (by decide) ?_)⟩
      · rw [oz_cl1, show ((1 : Int32) - 1).toNatClampNeg = 0 by decide, h5]
      unfold wX_add_117
      refine br_t (by decide) ⟨oz_z20, nm_r (e' := upd (upd a5 1 0) 0 1) ?_ (nm_r (e' := 2) (by decide) (h 0 _ b9 b10 (Or.inl ⟨rfl, hc⟩) pk_us ?_ f1 f2))⟩
      · rw [show (nI 0).toNatClampNeg = 0 by decide]
      · rw [pk_un (by decide)]
        exact pk_us
    · subst c1
      refine ⟨1, ?_⟩
      unfold wX_add_117
      refine br_t (by decide) ⟨oz_z21, nm_r (e' := upd a5 1 1) ?_ (nm_r (e' := 2) (by decide) (h 1 _ b9 b10 (Or.inr ⟨rfl, hc⟩) pk_us ?_ f1 f2))⟩
      · rw [show (nI 1).toNatClampNeg = 1 by decide]
      · rw [pk_un (by decide)]
        exact h5
  exact oz_bnd1 (d := d) (f := f) (z := z) (w := w) (v := v) h5 h8 h9 hb (fun g => main 1 (Or.inr ⟨rfl, g⟩)) (fun g => main 0 (Or.inl ⟨rfl, g⟩))
/-- how many are below -/
theorem oz_below {post : Int32 → St2 → Prop} {z : Bool} {w v : Int32} (hK : oz_K K d f) (h1 : a1 0 = oz_i z) (h2 : a2 0 = v) (h5 : a5 0 = 0)
    (h8 : a8 0 = nI 5) (h9 : ∀ j, j < 5 → a9 j = nI (oz_k d f false w j))
    (hy : ∀ b10, oz_R d f false w < oz_R d f z v → post 1 (1, K, 1, nI (oz_n z), r, a1, a2, a3, a4, a5, a6, a7, a8, a9, b10))
    (hn : ∀ b10, oz_R d f z v ≤ oz_R d f false w → post 0 (1, K, 1, nI (oz_n z), r, a1, a2, a3, a4, a5, a6, a7, a8, a9, b10)) :
    wpX_below post (1, K, 1, q, r, a1, a2, a3, a4, a5, a6, a7, a8, a9, a10) := by
  unfold wpX_below
  dsimp only
  exact oz_enc (z := z) (v := v) hK h1 h2 (fun b10 hb => oz_bnd0 (d := d) (f := f) (z := z) (w := w) (v := v) h5 h8 h9 hb (hy b10) (hn b10))
/-- how many begin with the first field -/
theorem oz_match {post : Int32 → St2 → Prop} {z : Bool} {w v : Int32} (hK : oz_K K d f) (h1 : a1 0 = oz_i z) (h2 : a2 0 = v) (h5 : a5 0 = 0)
    (h8 : a8 0 = nI 5) (h9 : ∀ j, j < 5 → a9 j = nI (oz_k d f false w j))
    (hy : ∀ b10, oz_R d f z v = oz_R d f false w → post 1 (1, K, 1, nI (oz_n z), r, a1, a2, a3, a4, a5, a6, a7, a8, a9, b10))
    (hn : ∀ b10, oz_R d f z v ≠ oz_R d f false w → post 0 (1, K, 1, nI (oz_n z), r, a1, a2, a3, a4, a5, a6, a7, a8, a9, b10)) :
    wpX_matching post (1, K, 1, q, r, a1, a2, a3, a4, a5, a6, a7, a8, a9, a10) 1 := by
  unfold wpX_matching
  dsimp only
  refine br_f (by decide) (br_t (by decide) (oz_enc (z := z) (v := v) hK h1 h2 (fun b10 hb => oz_bnd0 (d := d) (f := f) (z := z) (w := w) (v := v) h5 h8 h9 hb (fun g => ?_) (fun g => ?_))))
  · exact oz_bnd1 (d := d) (f := f) (z := z) (w := w) (v := v) h5 h8 h9 hb (fun g2 => hn b10 (by omega)) (fun g2 => absurd g2 (by omega))
  · exact oz_bnd1 (d := d) (f := f) (z := z) (w := w) (v := v) h5 h8 h9 hb (fun g2 => hy b10 (by omega)) (fun g2 => hn b10 (by omega))
end
end
section
/-! ===== the walks, last: reading keys back ===== -/
section
variable {K q : Int32} {a1 a2 a3 a4 a5 a6 a7 a8 a9 a10 : Nat → Int32} {d f : Bool}
theorem oz_noE {post : Int32 → Prop} {r : Int32} {i : Nat} (hi : i < 2) (h : post 0) : wpX_noEntry post (1, K, 2, q, r, a1, a2, a3, a4, a5, a6, a7, a8, a9, a10) (nI i) :=
  br_f (nI_pos (by omega)) (br_t (nI_lt (b := 2) hi (by decide)) h)
theorem oz_tag {post : Int32 → Prop} {r x : Int32} {i p : Nat} (hx : x = nI i) (hi : i < 2) (hp : p < 2) (h5 : a5 i = nI p) (h : post (a7 p)) :
    wpX_tag post (1, K, 2, q, r, a1, a2, a3, a4, a5, a6, a7, a8, a9, a10) x := by
  subst hx
  unfold wpX_tag
  dsimp only
  refine oz_noE hi (br_t rfl ⟨pk_in i 20 (by omega), ?_, ?_⟩)
  · rw [nI_clamp (show i < 2 ^ 31 by omega), h5]
    exact pk_in p 20 (by omega)
  · rw [nI_clamp (show i < 2 ^ 31 by omega), h5, nI_clamp (show p < 2 ^ 31 by omega)]
    exact h
theorem oz_next {post : Int32 → St2 → Prop} {e : Int32} {p i : Nat} (hp : p < 2) (hi : i < 64) (h : post (a9 (p * 64 + i)) (1, K, e, q, nI (i + 1), a1, a2, a3, a4, a5, a6, a7, a8, a9, a10)) :
    wpX_nextByte post (1, K, e, q, nI i, a1, a2, a3, a4, a5, a6, a7, a8, a9, a10) (nI p) := by
  unfold wpX_nextByte
  dsimp only
  refine br_f (nI_ge (b := 64) hi (by decide)) ⟨?_, ?_⟩
  · rw [oz_ix]
    exact pk_in (p * 64 + i) 1280 (by omega)
  · unfold wX_nextByte_27
    rw [oz_ix, nI_clamp (by omega)]
    exact nm_r (nI_1 i) h
theorem oz_nextT {post : Int32 → St2 → Prop} {e : Int32} {p i b : Nat} (hK : oz_K K d f) (hp : p < 2) (hi : i < 64) (hb : b < 256) (h9 : a9 (p * 64 + i) = nI b)
    (h : post (nI (oz_t d b)) (1, K, e, q, nI (i + 1), a1, a2, a3, a4, a5, a6, a7, a8, a9, a10)) : wpX_nextTurned post (1, K, e, q, nI i, a1, a2, a3, a4, a5, a6, a7, a8, a9, a10) (nI p) 0 := by
  unfold wpX_nextTurned
  dsimp only
  refine oz_next hp hi ?_
  dsimp only
  rw [h9]
  refine oz_de hK ?_
  cases d with
  | true =>
    refine br_f (by decide) ?_
    have e1 : (255 : Int32) - nI b = nI (255 - b) := pk_sub (a := 255) (by omega)
    rw [e1]
    exact h
  | false => exact br_t rfl h
theorem oz_seek {post : Int32 → St2 → Prop} {e r : Int32} {z : Bool} {v : Int32} {p : Nat} (hp : p < 2) (h9 : a9 (p * 64) = nI (oz_k d f z v 0))
    (h : post (oz_i z) (1, K, e, q, 1, a1, a2, a3, a4, a5, a6, a7, a8, a9, a10)) : wpX_seek post (1, K, e, q, r, a1, a2, a3, a4, a5, a6, a7, a8, a9, a10) (nI p) 0 := by
  unfold wpX_seek
  dsimp only
  refine ⟨1, ?_⟩
  unfold wX_seek_7
  refine br_t (by decide) (oz_next (i := 0) hp (by decide) ?_)
  dsimp only
  rw [Nat.add_zero, h9]
  cases z with
  | false => exact br_t rfl h
  | true =>
    refine br_f ?_ h
    cases f with
    | true => exact (show ¬ nI 0 = 1 by decide)
    | false => exact (show ¬ nI 2 = 1 by decide)
theorem oz_readInt {post : Int32 → St2 → Prop} {e : Int32} {v : Int32} {p : Nat} (hK : oz_K K d f) (hp : p < 2) (h9 : ∀ j, j < 4 → a9 (p * 64 + (1 + j)) = nI (oz_b d v j))
    (h : post v (1, K, e, q, 5, a1, a2, a3, a4, a5, a6, a7, a8, a9, a10)) : wpX_readInt post (1, K, e, q, 1, a1, a2, a3, a4, a5, a6, a7, a8, a9, a10) (nI p) 0 := by
  unfold wpX_readInt
  dsimp only
  refine ⟨5, ?_⟩
  have l := oz_u_lt v
  have R := oz_read (d := d) v
  have t0 := oz_t_lt (d := d) (oz_b_lt d v 0)
  have t1 := oz_t_lt (d := d) (oz_b_lt d v 1)
  have t2 := oz_t_lt (d := d) (oz_b_lt d v 2)
  have t3 := oz_t_lt (d := d) (oz_b_lt d v 3)
  unfold wX_readInt_5
  refine br_f (by decide) (oz_nextT (i := 1) hK hp (by decide) (oz_b_lt d v 0) (h9 0 (by decide)) (nm_r (oz_or (x := 0) t0 (by omega)) (nm_r (e' := 1) (by decide) ?_)))
  unfold wX_readInt_5
  refine br_f (by decide) (oz_nextT (i := 2) hK hp (by decide) (oz_b_lt d v 1) (h9 1 (by decide)) (nm_r (oz_or t1 (by omega)) (nm_r (e' := 2) (by decide) ?_)))
  unfold wX_readInt_5
  refine br_f (by decide) (oz_nextT (i := 3) hK hp (by decide) (oz_b_lt d v 2) (h9 2 (by decide)) (nm_r (oz_or t2 (by omega)) (nm_r (e' := 3) (by decide) ?_)))
  unfold wX_readInt_5
  refine br_f (by decide) (oz_nextT (i := 4) hK hp (by decide) (oz_b_lt d v 3) (h9 3 (by decide)) (nm_r (oz_or t3 (by omega)) (nm_r (e' := 4) (by decide) ?_)))
  unfold wX_readInt_5
  refine br_t (by decide) ?_
  rw [Nat.zero_mul, Nat.zero_add, R, oz_back]
  exact h
theorem oz_intAt {post : Int32 → St2 → Prop} {r x v : Int32} {i p : Nat} (hK : oz_K K d f) (hx : x = nI i) (hi : i < 2) (hp : p < 2) (h5 : a5 i = nI p)
    (h9 : ∀ j, j < 5 → a9 (p * 64 + j) = nI (oz_k d f false v j)) (h : post v (1, K, 2, q, 5, a1, a2, a3, a4, a5, a6, a7, a8, a9, a10)) :
    wpX_intAt post (1, K, 2, q, r, a1, a2, a3, a4, a5, a6, a7, a8, a9, a10) x 0 := by
  subst hx
  unfold wpX_intAt
  dsimp only
  refine oz_noE hi (br_t rfl (oz_bad (br_t rfl (oz_tx hK (br_t rfl ⟨pk_in i 20 (by omega), ?_⟩)))))
  rw [nI_clamp (show i < 2 ^ 31 by omega), h5]
  refine oz_seek (z := false) (v := v) hp (h9 0 (by decide)) ?_
  dsimp only
  refine br_t rfl ⟨pk_in i 20 (by omega), ?_⟩
  rw [h5]
  refine oz_readInt (v := v) hK hp (fun j hj => ?_) h
  rw [Nat.add_comm 1 j]
  exact h9 (j + 1) (by omega)
theorem oz_nullAt {post : Int32 → St2 → Prop} {r x v : Int32} {z : Bool} {i p : Nat} (hx : x = nI i) (hi : i < 2) (hp : p < 2) (h5 : a5 i = nI p)
    (h9 : a9 (p * 64) = nI (oz_k d f z v 0)) (h : post (oz_i z) (1, K, 2, q, 1, a1, a2, a3, a4, a5, a6, a7, a8, a9, a10)) :
    wpX_nullAt post (1, K, 2, q, r, a1, a2, a3, a4, a5, a6, a7, a8, a9, a10) x 0 := by
  subst hx
  unfold wpX_nullAt
  dsimp only
  refine oz_noE hi (br_t rfl (oz_bad (br_t rfl ⟨pk_in i 20 (by omega), ?_⟩)))
  rw [nI_clamp (show i < 2 ^ 31 by omega), h5]
  refine oz_seek (z := z) (v := v) hp h9 ⟨?_, h⟩
  cases z <;> rfl
end
end
section
/-! ===== the law ===== -/
section
variable {K r q : Int32} {a1 a2 a3 a4 a5 a6 a7 a8 a9 a10 : Nat → Int32} {d f : Bool} {mc ms kc ks : Nat}
theorem oz_l234 {z : Bool} {w v : Int32} {c : Nat} {x : Int32} (hK : oz_K K d f) (hx : x = nI (1 - c)) (hc : c < 2) (h5 : a5 c = 1) (h51 : a5 (1 - c) = 0) (h7 : a7 0 = 10) (h71 : a7 1 = 20)
    (h9 : ∀ j, j < 5 → a9 j = nI (oz_k d f false w j)) (h91 : a9 64 = nI (oz_k d f z v 0)) :
    wL_lawOf_234 (fun r _ => r = 1) mc ms w (oz_i z) x kc ks 1 K 2 q r a1 a2 a3 a4 a5 a6 a7 a8 a9 a10 := by
  subst hx
  have e1 : (1 : Int32) - nI (1 - c) = nI c := by
    have t : nI 1 - nI (1 - c) = nI (1 - (1 - c)) := pk_sub (by omega)
    rw [show 1 - (1 - c) = c by omega] at t
    exact t
  unfold wL_lawOf_234
  refine oz_tag (i := 1 - c) (p := 0) rfl (by omega) (by decide) h51 (br_t h7 ?_)
  rw [e1]
  refine oz_tag (i := c) (p := 1) rfl hc (by decide) h5 (br_t h71 ?_)
  refine oz_intAt (v := w) (i := 1 - c) (p := 0) hK rfl (by omega) (by decide) h51 (fun j hj => ?_) (br_t rfl ?_)
  · rw [Nat.zero_mul, Nat.zero_add]
    exact h9 j hj
  exact oz_nullAt (d := d) (f := f) (v := v) (z := z) (i := c) (p := 1) rfl hc (by decide) h5 h91 (br_t rfl rfl)
/-- what the law asks, behind the second setting of the stage -/
theorem oz_l156 {z : Bool} {w v : Int32} {bf al : Bool} (hK : oz_K K d f) (h1 : a1 0 = oz_i z) (h2 : a2 0 = v) (h5 : a5 0 = 0) (h6 : a6 0 = 1) (h61 : a6 1 = 0)
    (h7 : a7 0 = 10) (h8 : a8 0 = nI 5) (h9 : ∀ j, j < 5 → a9 j = nI (oz_k d f false w j))
    (hb : bf = true ↔ oz_R d f z v < oz_R d f false w) (ha : al = true ↔ oz_R d f z v = oz_R d f false w) :
    wL_lawOf_156 (fun r _ => r = 1) mc ms w (oz_i z) (oz_i bf) (oz_i al) kc ks 1 K 1 q r a1 a2 a3 a4 a5 a6 a7 a8 a9 a10 := by
  have step3 : ∀ b10, ∀ zz y : Int32, zz = y → wL_lawOf_197 (fun r _ => r = 1) mc ms w (oz_i z) (oz_i bf) zz y kc ks 1 K 1 (nI (oz_n z)) r a1 a2 a3 a4 a5 a6 a7 a8 a9 b10 := by
    intro b10 zz y hy
    subst hy
    unfold wL_lawOf_197
    refine br_t rfl (oz_add2 (z := z) (w := w) (v := v) hK h1 h2 h5 h6 h61 h8 h9 (fun c b5 b9 b10 hc g5 g51 g9 g91 => ?_))
    have k9 : b9 64 = nI (oz_k d f z v 0) := g91 0 (by cases z <;> decide)
    have g7 : upd a7 1 20 0 = 10 := by rw [pk_un (by decide)]; exact h7
    cases bf with
    | true =>
      have lt := hb.mp rfl
      have c0 : c = 0 := by omega
      subst c0
      refine br_f (by decide) ?_
      unfold wL_lawOf_219
      exact br_t rfl (br_f (by decide) (oz_l234 (z := z) (v := v) (c := 0) hK rfl (by decide) g5 g51 g7 pk_us g9 k9))
    | false =>
      have nlt : ¬ oz_R d f z v < oz_R d f false w := fun t => absurd (hb.mpr t) (by decide)
      have c1 : c = 1 := by omega
      subst c1
      refine br_t rfl ?_
      unfold wL_lawOf_219
      exact br_t rfl (br_t rfl (oz_l234 (z := z) (v := v) (c := 1) hK rfl (by decide) g5 g51 g7 pk_us g9 k9))
  have step2 : ∀ b10, ∀ zz y : Int32, zz = y → wL_lawOf_178 (fun r _ => r = 1) mc ms w (oz_i z) (oz_i bf) (oz_i al) zz y kc ks 1 K 1 (nI (oz_n z)) r a1 a2 a3 a4 a5 a6 a7 a8 a9 b10 := by
    intro b10 zz y hy
    subst hy
    unfold wL_lawOf_178
    refine br_t rfl (oz_match (z := z) (w := w) (v := v) hK h1 h2 h5 h8 h9 (fun b10 g => ?_) (fun b10 g => ?_))
    · have t := ha.mpr g
      subst t
      exact br_f (by decide) (step3 b10 _ _ rfl)
    · have t : al = false := by
        cases al with
        | false => rfl
        | true => exact absurd (ha.mp rfl) g
      subst t
      exact br_t rfl (step3 b10 _ _ rfl)
  unfold wL_lawOf_156
  refine oz_below (z := z) (w := w) (v := v) hK h1 h2 h5 h8 h9 (fun b10 g => ?_) (fun b10 g => ?_)
  · have t : bf = false := by
      cases bf with
      | false => rfl
      | true => exact absurd (hb.mp rfl) (by omega)
    have t2 : al = false := by
      cases al with
      | false => rfl
      | true => exact absurd (ha.mp rfl) (by omega)
    subst t
    subst t2
    exact br_t rfl (br_t rfl (step2 b10 _ _ rfl))
  · cases bf with
    | true => exact br_f (by decide) (step2 b10 _ _ rfl)
    | false =>
      have t : al = true := by
        apply ha.mpr
        have nlt : ¬ oz_R d f z v < oz_R d f false w := fun t => absurd (hb.mpr t) (by decide)
        omega
      subst t
      exact br_t rfl (br_f (by decide) (step2 b10 _ _ rfl))
/-- before and alike, as the law reckons them -/
theorem oz_l101 {z : Bool} {w v b : Int32} (hK : oz_K K d f) (h1 : a1 0 = oz_i z) (h2 : a2 0 = v) (hv : z = false → v = b) (h5 : a5 0 = 0) (h6 : a6 0 = 1) (h61 : a6 1 = 0)
    (h7 : a7 0 = 10) (h8 : a8 0 = nI 5) (h9 : ∀ j, j < 5 → a9 j = nI (oz_k d f false w j)) :
    wL_lawOf_101 (fun r _ => r = 1) mc ms w b (oz_i d) (oz_i f) (oz_i z) kc ks 1 K 1 q r a1 a2 a3 a4 a5 a6 a7 a8 a9 a10 := by
  have fin : ∀ bf al : Bool, (bf = true ↔ oz_R d f z v < oz_R d f false w) → (al = true ↔ oz_R d f z v = oz_R d f false w) →
      wL_lawOf_156 (fun r _ => r = 1) mc ms w (oz_i z) (oz_i bf) (oz_i al) kc ks 1 K 1 q r a1 a2 a3 a4 a5 a6 a7 a8 a9 a10 :=
    fun bf al hb ha => oz_l156 (z := z) (w := w) (v := v) hK h1 h2 h5 h6 h61 h7 h8 h9 hb ha
  have lw := oz_u_lt w
  have lv := oz_u_lt v
  unfold wL_lawOf_101
  cases z with
  | true =>
    have R1 : 1 ≤ oz_R d f false w ∧ oz_R d f false w ≤ 4294967296 := by
      cases d with
      | false =>
        show 1 ≤ 1 + oz_u w ∧ 1 + oz_u w ≤ 4294967296
        omega
      | true =>
        show 1 ≤ 1 + (4294967295 - oz_u w) ∧ 1 + (4294967295 - oz_u w) ≤ 4294967296
        omega
    refine br_f (by decide) ?_
    unfold wL_lawOf_139
    refine br_f (by decide) ?_
    unfold wL_lawOf_155
    refine fin f false ?_ ?_
    · cases f with
      | true =>
        show true = true ↔ 0 < oz_R d true false w
        exact ⟨fun _ => by omega, fun _ => rfl⟩
      | false =>
        show false = true ↔ 8589934592 < oz_R d false false w
        exact ⟨fun t => absurd t (by decide), fun t => absurd t (by omega)⟩
    · refine ⟨fun t => absurd t (by decide), fun t => ?_⟩
      cases f with
      | true =>
        have t' : 0 = oz_R d true false w := t
        omega
      | false =>
        have t' : 8589934592 = oz_R d false false w := t
        omega
  | false =>
    have e := hv rfl
    subst e
    have mid : ∀ bf : Bool, (bf = true ↔ oz_R d f false v < oz_R d f false w) → wL_lawOf_139 (fun r _ => r = 1) mc ms w v (oz_i false) (oz_i bf) kc ks 1 K 1 q r a1 a2 a3 a4 a5 a6 a7 a8 a9 a10 := by
      intro bf hb
      unfold wL_lawOf_139
      refine br_t rfl (br_c (fun g => ?_) (fun g => ?_))
      · refine fin bf true hb ⟨fun _ => ?_, fun _ => rfl⟩
        rw [g]
      · unfold wL_lawOf_155
        refine fin bf false hb ⟨fun t => absurd t (by decide), fun t => absurd (oz_u_inj.mpr ?_) g⟩
        cases d with
        | false =>
          have t' : 1 + oz_u v = 1 + oz_u w := t
          omega
        | true =>
          have t' : 1 + (4294967295 - oz_u v) = 1 + (4294967295 - oz_u w) := t
          omega
    refine br_t rfl ?_
    cases d with
    | false =>
      refine br_t rfl (br_c (fun g => ?_) (fun g => ?_))
      · have g' := oz_u_le.mp g
        refine mid false ⟨fun t => absurd t (by decide), fun t => ?_⟩
        have t' : 1 + oz_u v < 1 + oz_u w := t
        omega
      · have g' : ¬ oz_u w ≤ oz_u v := fun t => g (oz_u_le.mpr t)
        refine mid true ⟨fun _ => ?_, fun _ => rfl⟩
        show 1 + oz_u v < 1 + oz_u w
        omega
    | true =>
      refine br_f (by decide) (br_c (fun g => ?_) (fun g => ?_))
      · have g' := oz_u_le.mp g
        refine mid false ⟨fun t => absurd t (by decide), fun t => ?_⟩
        have t' : 1 + (4294967295 - oz_u v) < 1 + (4294967295 - oz_u w) := t
        omega
      · have g' : ¬ oz_u v ≤ oz_u w := fun t => g (oz_u_le.mpr t)
        refine mid true ⟨fun _ => ?_, fun _ => rfl⟩
        show 1 + (4294967295 - oz_u v) < 1 + (4294967295 - oz_u w)
        omega
/-- the law's calls, behind the object's making -/
theorem oz_l60 {z : Bool} {w b : Int32} (hK : oz_K K d f) (h6 : a6 0 = 0) (h61 : a6 1 = 0) :
    wL_lawOf_60 (fun r _ => r = 1) mc ms w b (oz_i d) (oz_i f) (oz_i z) kc ks 1 K 0 q r a1 a2 a3 a4 a5 a6 a7 a8 a9 a10 := by
  unfold wL_lawOf_60
  refine oz_setInt hK (oz_add1 (v := w) hK pk_us pk_us h6 (fun b9 b10 h9 => ?_))
  have k6 : upd a6 0 1 1 = 0 := by rw [pk_un (by decide)]; exact h61
  cases z with
  | false => exact br_t rfl (oz_setInt hK (oz_l101 (z := false) (v := b) hK pk_us pk_us (fun _ => rfl) pk_us pk_us k6 pk_us pk_us h9))
  | true => exact br_f (by decide) (oz_setNull (oz_l101 (z := true) (v := w) hK pk_us pk_us (fun t => absurd t (by decide)) pk_us pk_us k6 pk_us pk_us h9))
theorem oz_l31 {w b x : Int32} {d' : Int32} (hK : oz_K K d f) (hf : (K &&& 4) = 4 ↔ f = true) (hd : d' = oz_i d) (h6 : a6 0 = 0) (h61 : a6 1 = 0) :
    wL_lawOf_31 (fun r _ => r = 1) mc ms w b x K d' kc ks 1 K 0 q r a1 a2 a3 a4 a5 a6 a7 a8 a9 a10 := by
  subst hd
  have t46 : wL_lawOf_46 (fun r _ => r = 1) mc ms w b x (oz_i d) (oz_i f) kc ks 1 K 0 q r a1 a2 a3 a4 a5 a6 a7 a8 a9 a10 := by
    unfold wL_lawOf_46
    exact br_c (fun _ => oz_l60 (z := true) hK h6 h61) (fun _ => oz_l60 (z := false) hK h6 h61)
  unfold wL_lawOf_31
  cases f with
  | true => exact br_t (hf.mpr rfl) t46
  | false => exact br_f (fun t => absurd (hf.mp t) (by decide)) t46
end
/-- the object's making -/
theorem oz_init {post : St2 → Prop} {K : Int32} (h : ∀ a, post (1, K, 0, 0, 0, a, (fun _ => 0), (fun _ => 0), (fun _ => 0), (fun _ => 0), (fun _ => 0), (fun _ => 0), (fun _ => 0), (fun _ => 0), (fun _ => 0))) :
    wpX_init post 10 1460 (0, 0, 0, 0, 0) 1 K := by
  have t98 : wX_init_98 post 10 1460 K 1 10 1460 0 0 0 0 0 (fun _ => 0) (fun _ => 0) (fun _ => 0) (fun _ => 0) (fun _ => 0) (fun _ => 0) (fun _ => 0) (fun _ => 0) (fun _ => 0) (fun _ => 0) := by
    unfold wX_init_98
    refine pk_loop (fun m i s => wX_init_111 post 10 1460 10 1460 1 K 0 0 0 m (nI i) s (fun _ => 0) (fun _ => 0) (fun _ => 0) (fun _ => 0) (fun _ => 0) (fun _ => 0) (fun _ => 0) (fun _ => 0) (fun _ => 0)) (fun _ _ => True) 4 0 (fun _ => 0) (by decide) trivial ?_ ?_
    · intro m s _
      exact br_t (by decide) (h s)
    · intro m i s hi _ hw
      exact br_f (nI_ge (b := 4) hi (by decide)) ⟨pk_in i 4 hi, nm_e (nm_r (nI_1 i) (hw _ trivial))⟩
  unfold wpX_init
  dsimp only
  refine ⟨by decide, by decide, by decide, by decide, by decide, by decide, by decide, by decide, by decide, by decide, by decide, by decide, by decide, by decide, by decide, by decide, by decide, by decide, by decide, by decide, br_t (by decide) ?_⟩
  unfold wX_init_91
  exact br_t (by decide) t98
theorem oz_kind (s : Int32) : oz_K (s &&& 6) (decide ((s &&& 6) &&& 2 = 2)) (decide ((s &&& 6) &&& 4 = 4)) := by
  have e : (s &&& 6) >>> (((4 : Int32) * 0) &&& 31) = s &&& 6 := sb_shr0 _
  unfold oz_K
  rw [e]
  refine ⟨?_, by simp, by simp⟩
  rw [Int32.and_assoc, show (6 : Int32) &&& 1 = 0 by decide, Int32.and_zero]
  decide
theorem oz_lawOf (s w b x : Int32) : wpL_lawOf (fun r _ => r = 1) 11 1475 () s w b x := by
  unfold wpL_lawOf
  refine nm_e ⟨by decide, by decide, 10, 1460, by decide, by decide, oz_init (fun a => ?_)⟩
  have hK := oz_kind s
  refine br_c (fun g => ?_) (fun g => ?_)
  · exact oz_l31 hK (by simp) (by rw [decide_eq_true g]; rfl) rfl rfl
  · exact oz_l31 hK (by simp) (by rw [decide_eq_false g]; rfl) rfl rfl
theorem oz_cell {post : Int32 → Prop} {L : Nat} {xs : Nat → Int32} {i : Nat} {x : Int32} (hL : L ≤ 4) (hi : i < 4) (hx : x = nI i) (h : ∀ y, post y) : wpL_cellAt post L xs () x := by
  subst hx
  unfold wpL_cellAt
  exact pk_le L i (fun _ => h _) (fun g => ⟨pk_in i L g (by rfl) (by omega), h _⟩)
theorem i_vc (xs : Nat → Int32) (L : Nat) (hL : L ≤ 4) : wpL_law (fun r => r = 1) L xs := by
  unfold wpL_law
  refine oz_cell (i := 0) hL (by decide) rfl (fun s => oz_cell (i := 1) hL (by decide) rfl (fun w => oz_cell (i := 2) hL (by decide) rfl (fun b => oz_cell (i := 3) hL (by decide) rfl (fun x => ?_))))
  exact ⟨11, 1475, by decide, by decide, oz_lawOf s w b x⟩
end
