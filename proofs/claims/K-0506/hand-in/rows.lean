section
/-! rows of the kit to paste: PURE-ROWS (a starting text) -/
theorem pk_us {f : Nat → Int32} {k : Nat} {x : Int32} : upd f k x k = x := if_pos rfl
theorem pk_un {f : Nat → Int32} {k j : Nat} {x : Int32} (h : j ≠ k) : upd f k x j = f j := if_neg h
theorem pk_mul (a b : Nat) : nI a * nI b = nI (a * b) := (Int32.ofNat_mul a b).symm
theorem pk_le {x y : Int32} {A B : Prop} (a b : Nat) (f : a ≤ b → A) (g : b < a → B) (hx : x = nI a := by rfl) (hy : y = nI b := by rfl) (ha : a < 2 ^ 31 := by omega) (hb : b < 2 ^ 31 := by omega) : (x ≤ y → A) ∧ (¬ x ≤ y → B) := by
  subst hx hy
  rw [nI_leI ha hb]
  exact ⟨f, fun z => g (by omega)⟩
theorem pk_lt {x y : Int32} {A B : Prop} (a b : Nat) (f : a < b → A) (g : b ≤ a → B) (hx : x = nI a := by rfl) (hy : y = nI b := by rfl) (ha : a < 2 ^ 31 := by omega) (hb : b < 2 ^ 31 := by omega) : (x < y → A) ∧ (¬ x < y → B) := by
  subst hx hy
  rw [nI_ltI ha hb]
  exact ⟨f, fun z => g (by omega)⟩
theorem pk_eq {x y : Int32} {A B : Prop} (a b : Nat) (f : a = b → A) (g : a ≠ b → B) (hx : x = nI a := by rfl) (hy : y = nI b := by rfl) (ha : a < 2 ^ 31 := by omega) (hb : b < 2 ^ 31 := by omega) : (x = y → A) ∧ (¬ x = y → B) := by
  subst hx hy
  rw [nI_eq ha hb]
  exact ⟨f, g⟩
theorem pk_in {x : Int32} (n N : Nat) (h : n < N) (hx : x = nI n := by rfl) (hN : N < 2 ^ 31 := by omega) : vp_in x N := by
  subst hx
  exact vp_in_nI h hN
theorem pk_cl {x : Int32} (n : Nat) (hx : x = nI n := by rfl) (h : n < 2 ^ 31 := by omega) : x.toNatClampNeg = n := by
  subst hx
  exact nI_clamp h
theorem pk_tn {n : Nat} (h : n < 2 ^ 32) : (nI n).toBitVec.toNat = n := Nat.mod_eq_of_lt h
theorem pk_and (x : Int32) {m : Int32} (k : Nat) (hm : m.toBitVec.toNat = 2 ^ k - 1) : x &&& m = nI (x.toBitVec.toNat % 2 ^ k) := by
  apply Int32.toBitVec_inj.mp
  apply BitVec.eq_of_toNat_eq
  rw [Int32.toBitVec_and, BitVec.toNat_and, hm, Nat.and_two_pow_sub_one_eq_mod]
  show _ = (BitVec.ofNat 32 _).toNat
  rw [BitVec.toNat_ofNat]
  exact (Nat.mod_eq_of_lt (Nat.lt_of_le_of_lt (Nat.mod_le _ _) x.toBitVec.isLt)).symm
theorem pk_andN {n : Nat} (h : n < 2 ^ 32) {m : Int32} (k : Nat) (hm : m.toBitVec.toNat = 2 ^ k - 1) : nI n &&& m = nI (n % 2 ^ k) := by
  rw [pk_and _ k hm, pk_tn h]
theorem pk_andE (x : Int32) {m : Int32} (k : Nat) (hm : m.toBitVec.toNat = 2 ^ k - 1) : ∃ j : Nat, j < 2 ^ k ∧ x &&& m = nI j := ⟨_, Nat.mod_lt _ (Nat.two_pow_pos k), pk_and x k hm⟩
theorem pk_andIn (x : Int32) {m : Int32} (k : Nat) (hm : m.toBitVec.toNat = 2 ^ k - 1) (hk : k ≤ 30) : vp_in (x &&& m) (2 ^ k) := by
  obtain ⟨j, hj, e⟩ := pk_andE x k hm
  rw [e]
  exact vp_in_nI hj (Nat.lt_of_le_of_lt (Nat.pow_le_pow_right (by decide) hk) (by decide))
theorem pk_ushr (x s : Int32) (k : Nat) (hs : ((s.toUInt32 &&& Int32.toUInt32 31).toBitVec % 32).toNat = k) : (x.toUInt32 >>> (s.toUInt32 &&& Int32.toUInt32 31)).toInt32.toBitVec.toNat = x.toBitVec.toNat / 2 ^ k := by
  have e : (x.toUInt32 >>> (s.toUInt32 &&& Int32.toUInt32 31)).toInt32.toBitVec = x.toBitVec >>> k := by
    rw [← hs]
    exact UInt32.toBitVec_shiftRight _ _
  rw [e, BitVec.toNat_ushiftRight, Nat.shiftRight_eq_div_pow]
theorem pk_ushrN {n : Nat} (hn : n < 2 ^ 32) (s : Int32) (k : Nat) (hs : ((s.toUInt32 &&& Int32.toUInt32 31).toBitVec % 32).toNat = k) : ((nI n).toUInt32 >>> (s.toUInt32 &&& Int32.toUInt32 31)).toInt32 = nI (n / 2 ^ k) := by
  apply Int32.toBitVec_inj.mp
  apply BitVec.eq_of_toNat_eq
  rw [pk_ushr _ s k hs, pk_tn hn, pk_tn (Nat.lt_of_le_of_lt (Nat.div_le_self _ _) hn)]
end
section
/-! the plain side: the order of the slots, the walk that builds, the descent and the climb -/
/-- the slots from the least value to the greatest -/
def ez_L : List Nat := [8, 4, 9, 2, 10, 5, 11, 1, 12, 6, 13, 3, 14, 7, 15]
/-- the slot of the j-th value; 0 for j = 15 -/
def ez_ord (j : Nat) : Nat := ez_L.getD j 0
/-- the place of a slot in the order -/
def ez_rk (k : Nat) : Nat := [15, 7, 3, 11, 1, 5, 9, 13, 0, 2, 4, 6, 8, 10, 12, 14].getD k 0
theorem ez_ord_rk : ∀ k, k < 16 → 1 ≤ k → ez_ord (ez_rk k) = k ∧ ez_rk k < 15 := by decide
theorem ez_ord_lt : ∀ j, j < 15 → ez_ord j < 16 := by decide
/-- the in-order walk with a stack (top first) pops just out, within its bounds -/
def ez_ok : Nat → Nat → List Nat → List Nat → Bool
  | 0, _, _, _ => false
  | f + 1, k, st, out =>
    if k ≤ 15 then decide (st.length < 4) && ez_ok f (2 * k) (k :: st) out
    else match st, out with
      | [], [] => true
      | m :: st', o :: out' => decide (m = o) && (decide (m ≤ 15) && ez_ok f (2 * m + 1) st' out')
      | _, _ => false
theorem ez_ok_L : ez_ok 40 1 [] ez_L = true := by decide
theorem ez_ok_push {f k : Nat} {st out : List Nat} (h : ez_ok (f + 1) k st out = true) (hk : k ≤ 15) : st.length < 4 ∧ ez_ok f (2 * k) (k :: st) out = true := by
  unfold ez_ok at h
  rw [if_pos hk, Bool.and_eq_true, decide_eq_true_eq] at h
  exact h
theorem ez_ok_pop {f k m o : Nat} {st out : List Nat} (h : ez_ok (f + 1) k (m :: st) (o :: out) = true) (hk : ¬ k ≤ 15) : m = o ∧ m ≤ 15 ∧ ez_ok f (2 * m + 1) st out = true := by
  rw [ez_ok, if_neg hk, Bool.and_eq_true, Bool.and_eq_true, decide_eq_true_eq, decide_eq_true_eq] at h
  exact h
theorem ez_ok_no1 {f k m : Nat} {st : List Nat} (h : ez_ok (f + 1) k (m :: st) [] = true) (hk : ¬ k ≤ 15) : False := by
  unfold ez_ok at h
  rw [if_neg hk] at h
  exact Bool.noConfusion h
theorem ez_ok_no2 {f k o : Nat} {out : List Nat} (h : ez_ok (f + 1) k [] (o :: out) = true) (hk : ¬ k ≤ 15) : False := by
  unfold ez_ok at h
  rw [if_neg hk] at h
  exact Bool.noConfusion h
/-- the array holds the stack -/
def ez_rep (a : Nat → Int32) : List Nat → Prop
  | [] => True
  | m :: st => a st.length = nI m ∧ ez_rep a st
theorem ez_rep_up {a : Nat → Int32} {l : Nat} {v : Int32} : ∀ st : List Nat, st.length ≤ l → ez_rep a st → ez_rep (upd a l v) st := by
  intro st
  induction st with
  | nil => intro _ _; exact trivial
  | cons m st ih =>
    intro hl h
    rw [List.length_cons] at hl
    exact ⟨(pk_un (by omega)).trans h.1, ih (by omega) h.2⟩
/-- what the walk writes -/
def ez_wr (s : Nat → Int32) : List Nat → Nat → (Nat → Int32) → (Nat → Int32)
  | [], _, t => t
  | o :: out, j, t => ez_wr s out (j + 1) (upd t o (s j))
def ez_ww : List Nat → Nat → (Nat → Int32) → (Nat → Int32)
  | [], _, w => w
  | o :: out, j, w => ez_ww out (j + 1) (upd w j (nI o))
theorem ez_upd0 (o : Nat) : upd (fun _ => 0) o 0 = (fun _ => 0) := by
  funext j
  unfold upd
  split <;> rfl
theorem ez_wr0 : ∀ (out : List Nat) (j : Nat), ez_wr (fun _ => 0) out j (fun _ => 0) = (fun _ => 0) := by
  intro out
  induction out with
  | nil => intro j; rfl
  | cons o out ih =>
    intro j
    show ez_wr (fun _ => 0) out (j + 1) (upd (fun _ => 0) o 0) = _
    rw [ez_upd0]
    exact ih (j + 1)
theorem ez_wrL (s t : Nat → Int32) : ∀ j, j < 15 → ez_wr s ez_L 0 t (ez_ord j) = s j
  | 0, _ => rfl
  | 1, _ => rfl
  | 2, _ => rfl
  | 3, _ => rfl
  | 4, _ => rfl
  | 5, _ => rfl
  | 6, _ => rfl
  | 7, _ => rfl
  | 8, _ => rfl
  | 9, _ => rfl
  | 10, _ => rfl
  | 11, _ => rfl
  | 12, _ => rfl
  | 13, _ => rfl
  | 14, _ => rfl
  | n + 15, h => absurd h (by omega)
theorem ez_wwL (w : Nat → Int32) : ∀ j, j < 15 → ez_ww ez_L 0 w j = nI (ez_ord j)
  | 0, _ => rfl
  | 1, _ => rfl
  | 2, _ => rfl
  | 3, _ => rfl
  | 4, _ => rfl
  | 5, _ => rfl
  | 6, _ => rfl
  | 7, _ => rfl
  | 8, _ => rfl
  | 9, _ => rfl
  | 10, _ => rfl
  | 11, _ => rfl
  | 12, _ => rfl
  | 13, _ => rfl
  | 14, _ => rfl
  | n + 15, h => absurd h (by omega)
/-- the descent, where the slots of place below m hold less than what is sought -/
def ez_dn (m : Nat) : Nat → Nat → Nat
  | 0, k => k
  | f + 1, k => if 15 < k then k else ez_dn m f (if ez_rk k < m then 2 * k + 1 else 2 * k)
theorem ez_dn_hi (m f k : Nat) (h : 15 < k) : ez_dn m f k = k := by
  cases f with
  | zero => rfl
  | succ f => rw [ez_dn, if_pos h]
/-- the climb -/
def ez_up : Nat → Nat → Nat
  | 0, k => k
  | f + 1, k => if k % 2 = 1 then ez_up f (k / 2) else k / 2
theorem ez_fin : ∀ m, m < 16 → 15 < ez_dn m 4 1 ∧ ez_up 6 (ez_dn m 4 1) = ez_ord m := by decide
/-- a property that falls once falls at one place -/
theorem ez_cut (c : Nat → Prop) (hc : ∀ i, i < 14 → c (i + 1) → c i) : ∀ n, n ≤ 15 → ∃ m, m ≤ n ∧ ∀ j, j < n → (c j ↔ j < m) := by
  intro n
  induction n with
  | zero => exact fun _ => ⟨0, Nat.le_refl _, fun j h => absurd h (by omega)⟩
  | succ n ih =>
    intro hn
    obtain ⟨m, hm, h⟩ := ih (by omega)
    by_cases hcn : c n
    · refine ⟨n + 1, Nat.le_refl _, fun j hj => ⟨fun _ => hj, fun _ => ?_⟩⟩
      have hmn : m = n := by
        cases n with
        | zero => omega
        | succ q =>
          have h1 := (h q (by omega)).mp (hc q (by omega) hcn)
          omega
      by_cases e : j = n
      · rw [e]; exact hcn
      · exact (h j (by omega)).mpr (by omega)
    · refine ⟨m, by omega, fun j hj => ?_⟩
      by_cases e : j = n
      · subst e
        exact ⟨fun z => absurd z hcn, fun z => absurd z (by omega)⟩
      · exact h j (by omega)
theorem ez_mono {s : Nat → Int32} (hs : ∀ i, i < 14 → s i ≤ s (i + 1)) {j : Nat} {v : Int32} (hl : 0 < j → s (j - 1) ≤ v) (hr : j < 14 → v ≤ s (j + 1)) : ∀ i, i < 14 → upd s j v i ≤ upd s j v (i + 1) := by
  intro i hi
  by_cases e : i = j
  · subst e
    rw [pk_us, pk_un (by omega)]
    exact hr hi
  · by_cases e2 : i + 1 = j
    · subst e2
      rw [pk_us, pk_un (by omega)]
      exact hl (by omega)
    · rw [pk_un e, pk_un e2]
      exact hs i hi
end
section
/-! both in-order walks against ez_ok -/
theorem ez_two (k : Nat) : (2 : Int32) * nI k = nI (2 * k) := pk_mul 2 k
theorem ez_two1 (k : Nat) : (2 : Int32) * nI k + 1 = nI (2 * k + 1) := by rw [ez_two, nI_1]
theorem ez_sh0 : ∀ m, m < 16 → (nI m).toInt16.toInt32.toInt16.toInt32 = nI m := by decide +kernel
theorem ez_sh {m : Nat} (h : m ≤ 15) : vp_nar .short (nI m).toInt16.toInt32 = nI m := by
  rw [vp_nar_short]
  exact ez_sh0 m (by omega)
theorem ez_bx (post : Int32 → SX → Prop) (s : Nat → Int32) : ∀ (f k : Nat) (st out : List Nat) (j : Nat) (t a : Nat → Int32), ez_ok f k st out = true → k < 64 → j + out.length = 15 → ez_rep a st → st.length ≤ 4 → (∀ a' : Nat → Int32, post (nI 15) (s, ez_wr s out j t, a')) →
    (∀ n m : Nat, f ≤ n + 1 → f ≤ m → (k ≤ 15 ∨ 0 < st.length) → wX_build_16 post (wX_build_6 post n) (nI j) m (nI st.length) (nI k) s t a) ∧
    (∀ n : Nat, f ≤ n → wX_build_6 post n (nI st.length) (nI k) (nI j) s t a) := by
  intro f
  induction f with
  | zero => intro k st out j t a h; exact Bool.noConfusion h
  | succ f ih =>
    intro k st out j t a h hk hj hr hl hp
    have inner : ∀ n m : Nat, f + 1 ≤ n + 1 → f + 1 ≤ m → (k ≤ 15 ∨ 0 < st.length) → wX_build_16 post (wX_build_6 post n) (nI j) m (nI st.length) (nI k) s t a := by
      intro n m hn hm hc
      obtain ⟨m, rfl⟩ : ∃ q, m = q + 1 := ⟨m - 1, by omega⟩
      by_cases h15 : k ≤ 15
      · obtain ⟨h2, h3⟩ := ez_ok_push h h15
        have I := (ih (2 * k) (k :: st) out j t (upd a st.length (nI k)) h3 (by omega) hj ⟨pk_us, ez_rep_up st (Nat.le_refl _) hr⟩ h2 hp).1 n m (by omega) (by omega) (Or.inr (Nat.succ_pos _))
        refine pk_lt 15 k (fun z => absurd h15 (by omega)) (fun _ => ⟨vp_in_nI (by omega) (by decide), ?_⟩)
        refine nm_r (e' := upd a st.length (nI k)) (by rw [nI_clamp (by omega)]) ?_
        exact nm_r (nI_1 st.length) (nm_r (ez_two k) I)
      · cases st with
        | nil => exact absurd hc (fun z => z.elim h15 (Nat.lt_irrefl 0))
        | cons m' st' =>
          cases out with
          | nil => exact (ez_ok_no1 h h15).elim
          | cons o out' =>
            obtain ⟨h2, h3, h4⟩ := ez_ok_pop h h15
            subst h2
            rw [List.length_cons] at hj hl
            have I := (ih (2 * m' + 1) st' out' (j + 1) (upd t m' (s j)) a h4 (by omega) (by omega) hr.2 (by omega) hp).2 n (by omega)
            refine pk_lt 15 k (fun _ => ?_) (fun z => absurd z h15)
            refine nm_r (nI_pred st'.length) ⟨vp_in_nI (by omega) (by decide), ?_⟩
            refine nm_r (e' := nI m') (by rw [nI_clamp (by omega)]; exact hr.1) ⟨vp_in_nI (by omega) (by decide), vp_in_nI (by omega) (by decide), ?_⟩
            refine nm_r (e' := upd t m' (s j)) (by rw [nI_clamp (by omega), nI_clamp (by omega)]) ?_
            exact nm_r (nI_1 j) (nm_r (ez_two1 m') I)
    refine ⟨inner, fun n hn => ?_⟩
    obtain ⟨n, rfl⟩ : ∃ q, n = q + 1 := ⟨n - 1, by omega⟩
    refine pk_le k 15 (fun h15 => ⟨f + 1, inner n (f + 1) hn (Nat.le_refl _) (Or.inl h15)⟩) (fun h15 => ?_)
    refine pk_le st.length 0 (fun h0 => ?_) (fun h0 => ⟨f + 1, inner n (f + 1) hn (Nat.le_refl _) (Or.inr h0)⟩)
    cases st with
    | nil =>
      cases out with
      | nil =>
        obtain rfl : j = 15 := hj
        exact hp a
      | cons o out' => exact (ez_ok_no2 h (by omega)).elim
    | cons m' st' => exact absurd h0 (Nat.not_succ_le_zero _)
theorem ez_by (post : Int32 → SY → Prop) (s : Nat → Int32) : ∀ (f k : Nat) (st out : List Nat) (j : Nat) (t w b : Nat → Int32), ez_ok f k st out = true → k < 64 → j + out.length = 15 → ez_rep b st → st.length ≤ 4 → (∀ b' : Nat → Int32, post (nI 15) (s, ez_wr s out j t, ez_ww out j w, b')) →
    (∀ n m : Nat, f ≤ n + 1 → f ≤ m → (k ≤ 15 ∨ 0 < st.length) → wY_fill_16 post (wY_fill_6 post n) (nI j) m (nI k) (nI st.length) s t w b) ∧
    (∀ n : Nat, f ≤ n → wY_fill_6 post n (nI k) (nI j) (nI st.length) s t w b) := by
  intro f
  induction f with
  | zero => intro k st out j t w b h; exact Bool.noConfusion h
  | succ f ih =>
    intro k st out j t w b h hk hj hr hl hp
    have inner : ∀ n m : Nat, f + 1 ≤ n + 1 → f + 1 ≤ m → (k ≤ 15 ∨ 0 < st.length) → wY_fill_16 post (wY_fill_6 post n) (nI j) m (nI k) (nI st.length) s t w b := by
      intro n m hn hm hc
      obtain ⟨m, rfl⟩ : ∃ q, m = q + 1 := ⟨m - 1, by omega⟩
      by_cases h15 : k ≤ 15
      · obtain ⟨h2, h3⟩ := ez_ok_push h h15
        have I := (ih (2 * k) (k :: st) out j t w (upd b st.length (nI k)) h3 (by omega) hj ⟨pk_us, ez_rep_up st (Nat.le_refl _) hr⟩ h2 hp).1 n m (by omega) (by omega) (Or.inr (Nat.succ_pos _))
        refine pk_lt 15 k (fun z => absurd h15 (by omega)) (fun _ => ⟨vp_in_nI (by omega) (by decide), ?_⟩)
        refine nm_r (e' := upd b st.length (nI k)) (by rw [nI_clamp (by omega)]) ?_
        exact nm_r (nI_1 st.length) (nm_r (ez_two k) I)
      · cases st with
        | nil => exact absurd hc (fun z => z.elim h15 (Nat.lt_irrefl 0))
        | cons m' st' =>
          cases out with
          | nil => exact (ez_ok_no1 h h15).elim
          | cons o out' =>
            obtain ⟨h2, h3, h4⟩ := ez_ok_pop h h15
            subst h2
            rw [List.length_cons] at hj hl
            have I := (ih (2 * m' + 1) st' out' (j + 1) (upd t m' (s j)) (upd w j (nI m')) b h4 (by omega) (by omega) hr.2 (by omega) hp).2 n (by omega)
            refine pk_lt 15 k (fun _ => ?_) (fun z => absurd z h15)
            refine nm_r (nI_pred st'.length) ⟨vp_in_nI (by omega) (by decide), ?_⟩
            refine nm_r (e' := nI m') (by rw [nI_clamp (by omega)]; exact hr.1) ?_
            refine pk_le j 14 (fun _ => ⟨vp_in_nI (by omega) (by decide), vp_in_nI (by omega) (by decide), ?_⟩) (fun z => absurd z (by omega))
            refine nm_r (e' := upd t m' (s j)) (by rw [nI_clamp (by omega), nI_clamp (by omega)]) ⟨vp_in_nI (by omega) (by decide), ?_⟩
            refine nm_r (e' := upd w j (nI m')) (by rw [nI_clamp (by omega), ez_sh h3]) ?_
            exact nm_r (nI_1 j) (nm_r (ez_two1 m') I)
    refine ⟨inner, fun n hn => ?_⟩
    obtain ⟨n, rfl⟩ : ∃ q, n = q + 1 := ⟨n - 1, by omega⟩
    refine pk_le k 15 (fun h15 => ⟨f + 1, inner n (f + 1) hn (Nat.le_refl _) (Or.inl h15)⟩) (fun h15 => ?_)
    refine pk_le st.length 0 (fun h0 => ?_) (fun h0 => ⟨f + 1, inner n (f + 1) hn (Nat.le_refl _) (Or.inr h0)⟩)
    cases st with
    | nil =>
      cases out with
      | nil =>
        obtain rfl : j = 15 := hj
        exact hp b
      | cons o out' => exact (ez_ok_no2 h (by omega)).elim
    | cons m' st' => exact absurd h0 (Nat.not_succ_le_zero _)
/-- the whole walks -/
theorem ez_buildX (post : Int32 → SX → Prop) (s t a : Nat → Int32) (hp : ∀ a' : Nat → Int32, post (nI 15) (s, ez_wr s ez_L 0 t, a')) : wX_build_6 post 40 0 1 0 s t a :=
  (ez_bx post s 40 1 [] ez_L 0 t a ez_ok_L (by decide) rfl trivial (Nat.zero_le _) hp).2 40 (Nat.le_refl _)
theorem ez_fillY (post : Int32 → SY → Prop) (s t w b : Nat → Int32) (hp : ∀ b' : Nat → Int32, post (nI 15) (s, ez_wr s ez_L 0 t, ez_ww ez_L 0 w, b')) : wY_fill_6 post 40 1 0 0 s t w b :=
  (ez_by post s 40 1 [] ez_L 0 t w b ez_ok_L (by decide) rfl trivial (Nat.zero_le _) hp).2 40 (Nat.le_refl _)
end
section
/-! the search: the descent and the climb of the one, the scan of the other -/
theorem ez_u31 (s t a : Nat → Int32) : ∀ (f k : Nat) (post : Int32 → Prop), k < 2 ^ f → k < 64 → post (nI (ez_up (f + 1) k)) → wX_lowerSlot_31 post s t a (f + 1) (nI k) := by
  intro f
  induction f with
  | zero =>
    intro k post hk _ hp
    obtain rfl : k = 0 := by omega
    exact br_f (by decide) (nm_r (e' := nI 0) (by decide) hp)
  | succ f ih =>
    intro k post hk h64 hp
    have e1 : nI k &&& 1 = nI (k % 2) := pk_andN (by omega) 1 (by decide)
    have e2 : ((nI k).toUInt32 >>> ((1 : Int32).toUInt32 &&& Int32.toUInt32 31)).toInt32 = nI (k / 2) := pk_ushrN (by omega) 1 1 (by decide)
    have hpw : 2 ^ (f + 1) = 2 ^ f * 2 := Nat.pow_succ 2 f
    refine pk_eq (k % 2) 1 (fun h => ?_) (fun h => ?_) e1
    · refine nm_r e2 (ih (k / 2) post (by omega) (by omega) ?_)
      rw [ez_up, if_pos h] at hp
      exact hp
    · refine nm_r e2 ?_
      rw [ez_up, if_neg h] at hp
      exact hp
theorem ez_d2 (s t a : Nat → Int32) (p : Int32) (m : Nat) (hm : ∀ k, 1 ≤ k → k ≤ 15 → (p ≤ t k ↔ ¬ ez_rk k < m)) : ∀ (f k : Nat) (post : Int32 → Prop), 1 ≤ k → k < 32 → 15 < ez_dn m f k → post (nI (ez_up 6 (ez_dn m f k))) → wX_lowerSlot_2 post p s t a (f + 1) (nI k) := by
  intro f
  induction f with
  | zero =>
    intro k post h1 h32 hd hp
    have h15 : 15 < k := hd
    exact pk_lt 15 k (fun _ => ⟨6, ez_u31 s t a 5 k post h32 (by omega) hp⟩) (fun z => absurd h15 (by omega))
  | succ f ih =>
    intro k post h1 h32 hd hp
    by_cases h15 : 15 < k
    · rw [ez_dn_hi m (f + 1) k h15] at hp
      exact pk_lt 15 k (fun _ => ⟨6, ez_u31 s t a 5 k post h32 (by omega) hp⟩) (fun z => absurd h15 (by omega))
    · have ec : (nI k).toNatClampNeg = k := nI_clamp (by omega)
      rw [ez_dn, if_neg h15] at hd hp
      refine pk_lt 15 k (fun z => absurd z h15) (fun _ => ⟨vp_in_nI (by omega) (by decide), ?_⟩)
      have hk := hm k h1 (by omega)
      by_cases hr : ez_rk k < m
      · rw [if_pos hr] at hd hp
        have hc : ¬ p ≤ t (nI k).toNatClampNeg := by
          rw [ec, hk]
          exact fun z => z hr
        exact br_f hc (nm_r (ez_two1 k) (ih (2 * k + 1) post (by omega) (by omega) hd hp))
      · rw [if_neg hr] at hd hp
        have hc : p ≤ t (nI k).toNatClampNeg := by
          rw [ec, hk]
          exact hr
        exact br_t hc (nm_r (e' := nI (2 * k)) (by rw [ez_two, Int32.add_zero]) (ih (2 * k) post (by omega) (by omega) hd hp))
theorem ez_y2 (s t w b : Nat → Int32) (p : Int32) (m : Nat) (hm : m ≤ 15) (hw : ∀ j, j < 15 → w j = nI (ez_ord j)) (hc : ∀ j, j < 15 → (t (ez_ord j) < p ↔ j < m)) (post : Int32 → Prop) (hp : post (nI (ez_ord m))) : ∀ (d j : Nat), j + d = m → wY_lowerSlot_2 post p s t w b (d + 1) (nI j) := by
  intro d
  induction d with
  | zero =>
    intro j hj
    obtain rfl : j = m := hj
    refine pk_le 15 j (fun h => ?_) (fun h => ?_)
    · obtain rfl : j = 15 := by omega
      exact hp
    · have ec : (nI j).toNatClampNeg = j := nI_clamp (by omega)
      have eo := ez_ord_lt j h
      have ew : w (nI j).toNatClampNeg &&& 15 = nI (ez_ord j) := by
        rw [ec, hw j h, pk_andN (by omega) 4 (by decide), Nat.mod_eq_of_lt eo]
      have hn : ¬ t (w (nI j).toNatClampNeg &&& 15).toNatClampNeg < p := by
        rw [ew, nI_clamp (by omega), hc j h]
        exact Nat.lt_irrefl j
      have hq : post (w (nI j).toNatClampNeg) := by
        rw [ec, hw j h]
        exact hp
      exact ⟨vp_in_nI h (by decide), by rw [ew]; exact vp_in_nI eo (by decide), br_f hn ⟨vp_in_nI h (by decide), hq⟩⟩
  | succ d ih =>
    intro j hj
    have h : j < 15 := by omega
    have ec : (nI j).toNatClampNeg = j := nI_clamp (by omega)
    have eo := ez_ord_lt j h
    have ew : w (nI j).toNatClampNeg &&& 15 = nI (ez_ord j) := by
      rw [ec, hw j h, pk_andN (by omega) 4 (by decide), Nat.mod_eq_of_lt eo]
    have hn : t (w (nI j).toNatClampNeg &&& 15).toNatClampNeg < p := by
      rw [ew, nI_clamp (by omega), hc j h]
      omega
    refine pk_le 15 j (fun z => absurd h (by omega)) (fun _ => ?_)
    exact ⟨vp_in_nI h (by decide), by rw [ew]; exact vp_in_nI eo (by decide), br_t hn (nm_r (nI_1 j) (ih (j + 1) (by omega)))⟩
end
section
/-! what is owed -/
/-- the two hold the same sorted values and the same table; the values rise; where is the order of the slots; the table rises along it; the stacks are free -/
def i_Rel (_ : Nat) (u : SX) (v : SY) : Prop := ∃ s t a w b : Nat → Int32, u = (s, t, a) ∧ v = (s, t, w, b) ∧ (∀ i, i < 14 → s i ≤ s (i + 1)) ∧ (∀ j, j < 15 → w j = nI (ez_ord j)) ∧ (∀ i, i < 14 → t (ez_ord i) ≤ t (ez_ord (i + 1)))
theorem i_up {k : Nat} {u : SX} {v : SY} (h : i_Rel k u v) : i_Rel (k + 3) u v := h
theorem i_vc0 : wpX_init (fun u => wpY_init (fun v => i_Rel 0 u v)) := by
  show wpY_init (fun v => i_Rel 0 ((fun _ => 0), (fun _ => 0), (fun _ => 0)) v)
  refine Exists.intro 40 (ez_fillY _ (fun _ => 0) (fun _ => 0) (fun _ => 0) (fun _ => 0) (fun b' => ?_))
  exact ⟨(fun _ => 0), (fun _ => 0), (fun _ => 0), ez_ww ez_L 0 (fun _ => 0), b', rfl, by rw [ez_wr0], fun _ _ => Int32.le_refl _, ez_wwL _, fun _ _ => Int32.le_refl _⟩
theorem ez_p31 (s t a w b : Nat → Int32) (j : Nat) (x : Int32) (hj : j ≤ 14) (hs : ∀ i, i < 14 → s i ≤ s (i + 1)) (hl : 0 < j → s (j - 1) ≤ x) : ∃ (r : Int32) (s' : Nat → Int32), (∀ i, i < 14 → s' i ≤ s' (i + 1)) ∧ (∀ post : Int32 → SX → Prop, post r (s', t, a) → wX_put_31 post (nI j) x s t a) ∧ (∀ post : Int32 → SY → Prop, post r (s', t, w, b) → wY_put_31 post (nI j) x s t w b) := by
  have ec : (nI j).toNatClampNeg = j := nI_clamp (by omega)
  have ea : upd s (nI j).toNatClampNeg x = upd s j x := by rw [ec]
  have hin : vp_in (nI j) 15 := vp_in_nI (by omega) (by decide)
  by_cases h : 14 ≤ j
  · refine ⟨0, upd s j x, ez_mono hs hl (fun z => absurd z (by omega)), fun post hp => ?_, fun post hp => ?_⟩
    · exact pk_le 14 j (fun _ => ⟨hin, nm_r ea hp⟩) (fun z => absurd h (by omega))
    · exact pk_le 14 j (fun _ => ⟨hin, nm_r ea hp⟩) (fun z => absurd h (by omega))
  · have e1 : s (nI j + 1).toNatClampNeg = s (j + 1) := by rw [nI_1, nI_clamp (by omega)]
    have hin1 : vp_in (nI j + 1) 15 := by
      rw [nI_1]
      exact vp_in_nI (by omega) (by decide)
    by_cases hv : x ≤ s (j + 1)
    · have hv' : x ≤ s (nI j + 1).toNatClampNeg := by rw [e1]; exact hv
      refine ⟨0, upd s j x, ez_mono hs hl (fun _ => hv), fun post hp => ?_, fun post hp => ?_⟩
      · exact pk_le 14 j (fun z => absurd z h) (fun _ => ⟨hin1, br_t hv' ⟨hin, nm_r ea hp⟩⟩)
      · exact pk_le 14 j (fun z => absurd z h) (fun _ => ⟨hin1, br_t hv' ⟨hin, nm_r ea hp⟩⟩)
    · have hv' : ¬ x ≤ s (nI j + 1).toNatClampNeg := by rw [e1]; exact hv
      refine ⟨-3, s, hs, fun post hp => ?_, fun post hp => ?_⟩
      · exact pk_le 14 j (fun z => absurd z h) (fun _ => ⟨hin1, br_f hv' hp⟩)
      · exact pk_le 14 j (fun z => absurd z h) (fun _ => ⟨hin1, br_f hv' hp⟩)
theorem i_vc_put {k : Nat} {u : SX} {v : SY} (I : i_Rel k u v) (hk : k + 3 ≤ 1536) (v1 : Int32) (v2 : Int32) : wpX_put (fun r u' => wpY_put (fun r' v' => r' = r ∧ i_Rel (k + 3) u' v') v v1 v2) u v1 v2 := by
  have I3 := i_up I
  obtain ⟨s, t, a, w, b, rfl, rfl, hs, hw, ht⟩ := I
  by_cases h0 : v1 < 0
  · exact br_t h0 (br_t h0 ⟨rfl, I3⟩)
  by_cases h14 : v1 ≤ 14
  · obtain ⟨j, hj, rfl⟩ := nI_of2 (M := 14) (n := 14) (by decide) h0 h14
    by_cases hz : j = 0
    · subst hz
      have hz0 : nI 0 ≤ 0 := by decide
      obtain ⟨r, s', hs', hX, hY⟩ := ez_p31 s t a w b 0 v2 (by decide) hs (fun z => absurd z (Nat.lt_irrefl 0))
      refine br_f h0 (br_t h14 (br_t hz0 (hX _ ?_)))
      exact br_f h0 (br_t h14 (br_t hz0 (hY _ ⟨rfl, s', t, a, w, b, rfl, rfl, hs', hw, ht⟩)))
    · have hz0 : ¬ nI j ≤ 0 := nI_nle (by omega) (by omega)
      obtain ⟨i, rfl⟩ : ∃ i, j = i + 1 := ⟨j - 1, by omega⟩
      have hin : vp_in (nI (i + 1) - 1) 15 := by
        rw [nI_pred]
        exact vp_in_nI (by omega) (by decide)
      have e1 : s (nI (i + 1) - 1).toNatClampNeg = s i := by rw [nI_pred, nI_clamp (by omega)]
      by_cases hv : s i ≤ v2
      · have hv' : s (nI (i + 1) - 1).toNatClampNeg ≤ v2 := by rw [e1]; exact hv
        obtain ⟨r, s', hs', hX, hY⟩ := ez_p31 s t a w b (i + 1) v2 hj hs (fun _ => hv)
        refine br_f h0 (br_t h14 (br_f hz0 ⟨hin, br_t hv' (hX _ ?_)⟩))
        exact br_f h0 (br_t h14 (br_f hz0 ⟨hin, br_t hv' (hY _ ⟨rfl, s', t, a, w, b, rfl, rfl, hs', hw, ht⟩)⟩))
      · have hv' : ¬ s (nI (i + 1) - 1).toNatClampNeg ≤ v2 := by rw [e1]; exact hv
        exact br_f h0 (br_t h14 (br_f hz0 ⟨hin, br_f hv' (br_f h0 (br_t h14 (br_f hz0 ⟨hin, br_f hv' ⟨rfl, I3⟩⟩)))⟩))
  · exact br_f h0 (br_f h14 (br_f h0 (br_f h14 ⟨rfl, I3⟩)))
theorem i_vc_build {k : Nat} {u : SX} {v : SY} (I : i_Rel k u v) (hk : k + 3 ≤ 1536) : wpX_build (fun r u' => wpY_build (fun r' v' => r' = r ∧ i_Rel (k + 3) u' v') v) u := by
  obtain ⟨s, t, a, w, b, rfl, rfl, hs, hw, ht⟩ := I
  refine Exists.intro 40 (ez_buildX _ s t a (fun a' => ?_))
  show wpY_build _ _
  refine Exists.intro 40 (ez_fillY _ s t w b (fun b' => ?_))
  refine ⟨rfl, s, ez_wr s ez_L 0 t, a', ez_ww ez_L 0 w, b', rfl, rfl, hs, ez_wwL w, fun i hi => ?_⟩
  rw [ez_wrL s t i (by omega), ez_wrL s t (i + 1) (by omega)]
  exact hs i hi
theorem i_vc_lowerSlot {k : Nat} {u : SX} {v : SY} (I : i_Rel k u v) (hk : k + 3 ≤ 1536) (v1 : Int32) : wpX_lowerSlot (fun r => wpY_lowerSlot (fun r' => r' = r ∧ i_Rel (k + 3) u v) v v1) u v1 := by
  have I3 := i_up I
  obtain ⟨s, t, a, w, b, rfl, rfl, hs, hw, ht⟩ := I
  obtain ⟨m, hm, hc⟩ := ez_cut (fun j => t (ez_ord j) < v1) (fun i hi h => by
    have h1 := ht i hi
    rw [Int32.lt_iff_toInt_lt] at h ⊢
    rw [Int32.le_iff_toInt_le] at h1
    omega) 15 (Nat.le_refl _)
  have hx : ∀ q, 1 ≤ q → q ≤ 15 → (v1 ≤ t q ↔ ¬ ez_rk q < m) := by
    intro q h1 h2
    obtain ⟨e, h3⟩ := ez_ord_rk q (by omega) h1
    have h4 := hc (ez_rk q) h3
    rw [e] at h4
    rw [← h4]
    exact Int32.not_lt.symm
  obtain ⟨f1, f2⟩ := ez_fin m (by omega)
  refine Exists.intro 5 (ez_d2 s t a v1 m hx 4 1 _ (by decide) (by decide) f1 ?_)
  rw [f2]
  show wpY_lowerSlot _ _ _
  exact Exists.intro (m + 1) (ez_y2 s t w b v1 m hm hw hc _ ⟨rfl, I3⟩ m 0 (by omega))
theorem i_vc_cell {k : Nat} {u : SX} {v : SY} (I : i_Rel k u v) (hk : k + 3 ≤ 1536) (v1 : Int32) : wpX_cell (fun r => wpY_cell (fun r' => r' = r ∧ i_Rel (k + 3) u v) v v1) u v1 := by
  have I3 := i_up I
  obtain ⟨s, t, a, w, b, rfl, rfl, hs, hw, ht⟩ := I
  have hi : vp_in (v1 &&& 15) 16 := pk_andIn v1 4 (by decide) (by decide)
  exact And.intro hi (And.intro hi ⟨rfl, I3⟩)
end
