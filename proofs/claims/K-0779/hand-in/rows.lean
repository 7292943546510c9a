section
/-! ===== 01: numbers, the home slot, the abstract content (pk_ rows: from the kit's rows to paste) ===== -/
theorem pk_us {f : Nat → Int32} {k : Nat} {x : Int32} : upd f k x k = x := if_pos rfl
theorem pk_un {f : Nat → Int32} {k j : Nat} {x : Int32} (h : j ≠ k) : upd f k x j = f j := if_neg h
theorem pk_uLs {f : Nat → Int64} {k : Nat} {x : Int64} : vp_updL f k x k = x := if_pos rfl
theorem pk_uLn {f : Nat → Int64} {k j : Nat} {x : Int64} (h : j ≠ k) : vp_updL f k x j = f j := if_neg h
theorem pk_le {x y : Int32} {A B : Prop} (a b : Nat) (f : a ≤ b → A) (g : b < a → B) (hx : x = nI a := by rfl) (hy : y = nI b := by rfl) (ha : a < 2 ^ 31 := by omega) (hb : b < 2 ^ 31 := by omega) : (x ≤ y → A) ∧ (¬ x ≤ y → B) := by
  subst hx hy
  rw [nI_leI ha hb]
  exact ⟨f, fun z => g (by omega)⟩
theorem pk_lt {x y : Int32} {A B : Prop} (a b : Nat) (f : a < b → A) (g : b ≤ a → B) (hx : x = nI a := by rfl) (hy : y = nI b := by rfl) (ha : a < 2 ^ 31 := by omega) (hb : b < 2 ^ 31 := by omega) : (x < y → A) ∧ (¬ x < y → B) := by
  subst hx hy
  rw [nI_ltI ha hb]
  exact ⟨f, fun z => g (by omega)⟩
theorem pk_eq {x y : Int32} {A B : Prop} (a b : Nat) (f : a = b → A) (g : a ≠ b → B) (hx : x = nI a := by rfl) (hy : y = nI b := by rfl) (ha : a < 2 ^ 31 := by omega) (hb : b < 2 ^ 31 := by omega) : (x = y → A) ∧ (¬ x = y → B) := by
  subst hx hy
  rw [nI_eq ha hb]
  exact ⟨f, g⟩
theorem pk_tn {n : Nat} (h : n < 2 ^ 32) : (nI n).toBitVec.toNat = n := Nat.mod_eq_of_lt h
theorem pk_and (x : Int32) {m : Int32} (k : Nat) (hm : m.toBitVec.toNat = 2 ^ k - 1) : x &&& m = nI (x.toBitVec.toNat % 2 ^ k) := by
  apply Int32.toBitVec_inj.mp
  apply BitVec.eq_of_toNat_eq
  rw [Int32.toBitVec_and, BitVec.toNat_and, hm, Nat.and_two_pow_sub_one_eq_mod]
  show _ = (BitVec.ofNat 32 _).toNat
  rw [BitVec.toNat_ofNat]
  exact (Nat.mod_eq_of_lt (Nat.lt_of_le_of_lt (Nat.mod_le _ _) x.toBitVec.isLt)).symm
theorem pk_andN {n : Nat} (h : n < 2 ^ 32) {m : Int32} (k : Nat) (hm : m.toBitVec.toNat = 2 ^ k - 1) : nI n &&& m = nI (n % 2 ^ k) := by
  rw [pk_and _ k hm, pk_tn h]
/-- the sum of two slots, wrapped -/
theorem rv_add3 {a b : Nat} (ha : a ≤ 4) (hb : b ≤ 4) : (nI a + nI b) &&& 3 = nI ((a + b) % 4) := by
  rw [nI_add]
  exact pk_andN (by omega) 2 (by decide)
/-- the way from slot b to slot a, wrapped -/
theorem rv_sub3 : ∀ a, a < 4 → ∀ b, b < 4 → (nI a - nI b) &&& 3 = nI ((a + 4 - b) % 4) := by decide +kernel
theorem rv_and3 (x : Int32) : ∃ j : Nat, j < 4 ∧ x &&& 3 = nI j := ⟨_, Nat.mod_lt _ (by decide), pk_and x 2 (by decide)⟩
/-- every block has a home slot -/
theorem rv_home0 (p0 : Int64) : ∃ x : Int32, ∀ (post : Int32 → Prop) (u : SX), post (x &&& 3) → wpX_home post u p0 := ⟨_, fun _ _ h => h⟩
theorem rv_home (p0 : Int64) : ∃ h : Nat, h < 4 ∧ ∀ (post : Int32 → Prop) (u : SX), post (nI h) → wpX_home post u p0 := by
  obtain ⟨x, hx⟩ := rv_home0 p0
  obtain ⟨j, hj, e⟩ := rv_and3 x
  exact ⟨j, hj, fun post u h => hx post u (by rw [e]; exact h)⟩
noncomputable def rv_hm (p0 : Int64) : Nat := (rv_home p0).choose
theorem rv_hm_lt (p0 : Int64) : rv_hm p0 < 4 := (rv_home p0).choose_spec.1
theorem rv_hm_wp {post : Int32 → Prop} {u : SX} {p0 : Int64} (h : post (nI (rv_hm p0))) : wpX_home post u p0 := (rv_home p0).choose_spec.2 post u h
theorem rv_nb0 : vp_nar .boolean 0 = 0 := rfl
theorem rv_nb1 : vp_nar .boolean 1 = 1 := rfl
/-! ===== how many slots are used ===== -/
def rv_o (x : Int32) : Nat := if x = 0 then 0 else 1
theorem rv_o0 {x : Int32} (h : x = 0) : rv_o x = 0 := if_pos h
theorem rv_o1 {x : Int32} (h : x ≠ 0) : rv_o x = 1 := if_neg h
theorem rv_ol (x : Int32) : rv_o x ≤ 1 := by unfold rv_o; split <;> omega
def rv_cnt (us : Nat → Int32) : Nat := rv_o (us 0) + rv_o (us 1) + rv_o (us 2) + rv_o (us 3)
theorem rv_cnt_le (us : Nat → Int32) : rv_cnt us ≤ 4 := by
  have a := rv_ol (us 0); have b := rv_ol (us 1); have c := rv_ol (us 2); have d := rv_ol (us 3)
  unfold rv_cnt; omega
theorem rv_4 {k : Nat} (h : k < 4) : k = 0 ∨ k = 1 ∨ k = 2 ∨ k = 3 := by omega
theorem rv_cnt_upd {us : Nat → Int32} {k : Nat} (v : Int32) (hk : k < 4) : rv_cnt (upd us k v) + rv_o (us k) = rv_cnt us + rv_o v := by
  rcases rv_4 hk with rfl | rfl | rfl | rfl
  · show rv_o v + rv_o (us 1) + rv_o (us 2) + rv_o (us 3) + rv_o (us 0) = rv_o (us 0) + rv_o (us 1) + rv_o (us 2) + rv_o (us 3) + rv_o v
    omega
  · show rv_o (us 0) + rv_o v + rv_o (us 2) + rv_o (us 3) + rv_o (us 1) = rv_o (us 0) + rv_o (us 1) + rv_o (us 2) + rv_o (us 3) + rv_o v
    omega
  · show rv_o (us 0) + rv_o (us 1) + rv_o v + rv_o (us 3) + rv_o (us 2) = rv_o (us 0) + rv_o (us 1) + rv_o (us 2) + rv_o (us 3) + rv_o v
    omega
  · show rv_o (us 0) + rv_o (us 1) + rv_o (us 2) + rv_o v + rv_o (us 3) = rv_o (us 0) + rv_o (us 1) + rv_o (us 2) + rv_o (us 3) + rv_o v
    omega
theorem rv_cnt_all {us : Nat → Int32} (h : ∀ k, k < 4 → us k ≠ 0) : rv_cnt us = 4 := by
  unfold rv_cnt
  rw [rv_o1 (h 0 (by omega)), rv_o1 (h 1 (by omega)), rv_o1 (h 2 (by omega)), rv_o1 (h 3 (by omega))]
/-! ===== the two tables against one content ===== -/
def rv_set (C : Int64 → Int32 → Prop) (x : Int64) (v : Int32) : Int64 → Int32 → Prop := fun x' y' => (x' = x ∧ y' = v) ∨ (x' ≠ x ∧ C x' y')
def rv_del (C : Int64 → Int32 → Prop) (x : Int64) : Int64 → Int32 → Prop := fun x' y' => x' ≠ x ∧ C x' y'
def rv_DX (b : Nat → Int64) (us : Nat → Int32) : Prop := ∀ k j, k < 4 → j < 4 → us k ≠ 0 → us j ≠ 0 → b k = b j → k = j
def rv_PX (b : Nat → Int64) (us : Nat → Int32) : Prop := ∀ k, k < 4 → us k ≠ 0 → ∀ r, r < (k + 4 - rv_hm (b k)) % 4 → us ((rv_hm (b k) + r) % 4) ≠ 0
/-- some slot e lies on no other entry's way (the last one filled, or one that is free) -/
def rv_EX (b : Nat → Int64) (us : Nat → Int32) : Prop := ∃ e, e < 4 ∧ ∀ k, k < 4 → k ≠ e → us k ≠ 0 → ∀ r, r < (k + 4 - rv_hm (b k)) % 4 → (rv_hm (b k) + r) % 4 ≠ e
def rv_CX (C : Int64 → Int32 → Prop) (b : Nat → Int64) (t us : Nat → Int32) : Prop := ∀ x y, C x y ↔ ∃ k, k < 4 ∧ us k ≠ 0 ∧ b k = x ∧ t k = y
def rv_TX (n : Nat) (C : Int64 → Int32 → Prop) (b : Nat → Int64) (t us : Nat → Int32) : Prop := n = rv_cnt us ∧ rv_DX b us ∧ rv_PX b us ∧ rv_EX b us ∧ rv_CX C b t us
def rv_TY (n : Nat) (C : Int64 → Int32 → Prop) (c : Nat → Int64) (d : Nat → Int32) : Prop := n ≤ 4 ∧ (∀ i j, i < n → j < n → c i = c j → i = j) ∧ (∀ x y, C x y ↔ ∃ i, i < n ∧ c i = x ∧ d i = y)
theorem rv_TY_fun {n : Nat} {C : Int64 → Int32 → Prop} {c : Nat → Int64} {d : Nat → Int32} (T : rv_TY n C c d) {x : Int64} {y z : Int32} (hy : C x y) (hz : C x z) : y = z := by
  obtain ⟨_, hD, hC⟩ := T
  obtain ⟨i, hi, ci, di⟩ := (hC x y).mp hy
  obtain ⟨j, hj, cj, dj⟩ := (hC x z).mp hz
  have e := hD i j hi hj (ci.trans cj.symm)
  subst e
  exact di.symm.trans dj
/-! ===== a tid stored anew ===== -/
theorem rv_TX_set {n : Nat} {C : Int64 → Int32 → Prop} {b : Nat → Int64} {t us : Nat → Int32} {k : Nat} (v : Int32) (T : rv_TX n C b t us) (hk : k < 4) (hu : us k ≠ 0) : rv_TX n (rv_set C (b k) v) b (upd t k v) us := by
  obtain ⟨hn, hD, hP, hE, hC⟩ := T
  refine ⟨hn, hD, hP, hE, fun x y => ⟨?_, ?_⟩⟩
  · rintro (⟨rfl, rfl⟩ | ⟨hx, hc⟩)
    · exact ⟨k, hk, hu, rfl, pk_us⟩
    · obtain ⟨j, hj, uj, bj, tj⟩ := (hC x y).mp hc
      have ne : j ≠ k := by
        rintro rfl
        exact hx bj.symm
      exact ⟨j, hj, uj, bj, (pk_un ne).trans tj⟩
  · rintro ⟨j, hj, uj, bj, tj⟩
    by_cases e : j = k
    · subst e
      rw [pk_us] at tj
      exact Or.inl ⟨bj.symm, tj.symm⟩
    · rw [pk_un e] at tj
      exact Or.inr ⟨fun z => e (hD j k hj hk uj hu (bj.trans z)), (hC x y).mpr ⟨j, hj, uj, bj, tj⟩⟩
theorem rv_TY_set {n : Nat} {C : Int64 → Int32 → Prop} {c : Nat → Int64} {d : Nat → Int32} {k : Nat} (v : Int32) (T : rv_TY n C c d) (hk : k < n) : rv_TY n (rv_set C (c k) v) c (upd d k v) := by
  obtain ⟨hn, hD, hC⟩ := T
  refine ⟨hn, hD, fun x y => ⟨?_, ?_⟩⟩
  · rintro (⟨rfl, rfl⟩ | ⟨hx, hc⟩)
    · exact ⟨k, hk, rfl, pk_us⟩
    · obtain ⟨j, hj, bj, tj⟩ := (hC x y).mp hc
      have ne : j ≠ k := by
        rintro rfl
        exact hx bj.symm
      exact ⟨j, hj, bj, (pk_un ne).trans tj⟩
  · rintro ⟨j, hj, bj, tj⟩
    by_cases e : j = k
    · subst e
      rw [pk_us] at tj
      exact Or.inl ⟨bj.symm, tj.symm⟩
    · rw [pk_un e] at tj
      exact Or.inr ⟨fun z => e (hD j k hj hk (bj.trans z)), (hC x y).mpr ⟨j, hj, bj, tj⟩⟩
/-! ===== a new entry ===== -/
theorem rv_upd_ne {us : Nat → Int32} {k q : Nat} {w : Int32} (hw : w ≠ 0) (h : us q ≠ 0) : upd us k w q ≠ 0 := by
  by_cases e : q = k
  · subst e; rw [pk_us]; exact hw
  · rw [pk_un e]; exact h
theorem rv_TX_ins {n : Nat} {C : Int64 → Int32 → Prop} {b : Nat → Int64} {t us : Nat → Int32} {k : Nat} {x : Int64} (v : Int32) {w : Int32} (T : rv_TX n C b t us) (hk : k < 4) (hu : us k = 0) (hx : ∀ y, ¬ C x y) (hp : ∀ r, r < (k + 4 - rv_hm x) % 4 → us ((rv_hm x + r) % 4) ≠ 0) (hw : w ≠ 0) : rv_TX (n + 1) (rv_set C x v) (vp_updL b k x) (upd t k v) (upd us k w) := by
  obtain ⟨hn, hD, hP, hE, hC⟩ := T
  have hb : ∀ j, j < 4 → us j ≠ 0 → b j ≠ x := fun j hj uj e => hx (t j) ((hC x (t j)).mpr ⟨j, hj, uj, e, rfl⟩)
  refine ⟨?_, ?_, ?_, ⟨k, hk, ?_⟩, fun x' y => ⟨?_, ?_⟩⟩
  · have h := rv_cnt_upd (us := us) w hk
    rw [rv_o0 hu, rv_o1 hw] at h
    omega
  · intro i j hi hj ui uj e
    by_cases ei : i = k <;> by_cases ej : j = k
    · omega
    · subst ei
      rw [pk_uLs, pk_uLn ej] at e
      rw [pk_un ej] at uj
      exact absurd e.symm (hb j hj uj)
    · subst ej
      rw [pk_uLs, pk_uLn ei] at e
      rw [pk_un ei] at ui
      exact absurd e (hb i hi ui)
    · rw [pk_uLn ei, pk_uLn ej] at e
      rw [pk_un ei] at ui
      rw [pk_un ej] at uj
      exact hD i j hi hj ui uj e
  · intro i hi ui r hr
    apply rv_upd_ne hw
    by_cases ei : i = k
    · subst ei
      rw [pk_uLs] at hr ⊢
      exact hp r hr
    · rw [pk_uLn ei] at hr ⊢
      rw [pk_un ei] at ui
      exact hP i hi ui r hr
  · intro i hi ei ui r hr z
    rw [pk_un ei] at ui
    rw [pk_uLn ei] at hr z
    have h := hP i hi ui r hr
    rw [z] at h
    exact h hu
  · rintro (⟨rfl, rfl⟩ | ⟨_, hc⟩)
    · exact ⟨k, hk, by rw [pk_us]; exact hw, pk_uLs, pk_us⟩
    · obtain ⟨j, hj, uj, bj, tj⟩ := (hC x' y).mp hc
      have ne : j ≠ k := by
        rintro rfl
        exact uj hu
      exact ⟨j, hj, by rw [pk_un ne]; exact uj, (pk_uLn ne).trans bj, (pk_un ne).trans tj⟩
  · rintro ⟨j, hj, uj, bj, tj⟩
    by_cases e : j = k
    · subst e
      rw [pk_us] at tj
      rw [pk_uLs] at bj
      exact Or.inl ⟨bj.symm, tj.symm⟩
    · rw [pk_un e] at tj uj
      rw [pk_uLn e] at bj
      exact Or.inr ⟨fun z => hb j hj uj (bj.trans z), (hC x' y).mpr ⟨j, hj, uj, bj, tj⟩⟩
theorem rv_TY_ins {n : Nat} {C : Int64 → Int32 → Prop} {c : Nat → Int64} {d : Nat → Int32} {x : Int64} (v : Int32) (T : rv_TY n C c d) (h4 : n < 4) (hx : ∀ y, ¬ C x y) : rv_TY (n + 1) (rv_set C x v) (vp_updL c n x) (upd d n v) := by
  obtain ⟨hn, hD, hC⟩ := T
  have hb : ∀ j, j < n → c j ≠ x := fun j hj e => hx (d j) ((hC x (d j)).mpr ⟨j, hj, e, rfl⟩)
  refine ⟨by omega, ?_, fun x' y => ⟨?_, ?_⟩⟩
  · intro i j hi hj e
    by_cases ei : i = n <;> by_cases ej : j = n
    · omega
    · subst ei
      rw [pk_uLs, pk_uLn ej] at e
      exact absurd e.symm (hb j (by omega))
    · subst ej
      rw [pk_uLs, pk_uLn ei] at e
      exact absurd e (hb i (by omega))
    · rw [pk_uLn ei, pk_uLn ej] at e
      exact hD i j (by omega) (by omega) e
  · rintro (⟨rfl, rfl⟩ | ⟨_, hc⟩)
    · exact ⟨n, by omega, pk_uLs, pk_us⟩
    · obtain ⟨j, hj, bj, tj⟩ := (hC x' y).mp hc
      have ne : j ≠ n := by omega
      exact ⟨j, by omega, (pk_uLn ne).trans bj, (pk_un ne).trans tj⟩
  · rintro ⟨j, hj, bj, tj⟩
    by_cases e : j = n
    · subst e
      rw [pk_us] at tj
      rw [pk_uLs] at bj
      exact Or.inl ⟨bj.symm, tj.symm⟩
    · rw [pk_un e] at tj
      rw [pk_uLn e] at bj
      have hj' : j < n := by omega
      exact Or.inr ⟨fun z => hb j hj' (bj.trans z), (hC x' y).mpr ⟨j, hj', bj, tj⟩⟩
end
section
/-! ===== 02: an entry taken out: the list of Y, the shifting slots of X ===== -/
theorem rv_TY_del {n : Nat} {C : Int64 → Int32 → Prop} {c : Nat → Int64} {d : Nat → Int32} {k : Nat} (T : rv_TY (n + 1) C c d) (hk : k < n + 1) : rv_TY n (rv_del C (c k)) (vp_updL c k (c n)) (upd d k (d n)) := by
  obtain ⟨hn, hD, hC⟩ := T
  refine ⟨by omega, ?_, fun x y => ⟨?_, ?_⟩⟩
  · intro i j hi hj e
    by_cases ei : i = k <;> by_cases ej : j = k
    · omega
    · subst ei
      rw [pk_uLs, pk_uLn ej] at e
      exact absurd (hD n j (by omega) (by omega) e) (by omega)
    · subst ej
      rw [pk_uLs, pk_uLn ei] at e
      exact absurd (hD i n (by omega) (by omega) e) (by omega)
    · rw [pk_uLn ei, pk_uLn ej] at e
      exact hD i j (by omega) (by omega) e
  · rintro ⟨hx, hc⟩
    obtain ⟨j, hj, bj, tj⟩ := (hC x y).mp hc
    have ne : j ≠ k := by
      rintro rfl
      exact hx bj.symm
    by_cases e : j = n
    · subst e
      exact ⟨k, by omega, pk_uLs.trans bj, pk_us.trans tj⟩
    · exact ⟨j, by omega, (pk_uLn ne).trans bj, (pk_un ne).trans tj⟩
  · rintro ⟨j, hj, bj, tj⟩
    by_cases e : j = k
    · subst e
      rw [pk_us] at tj
      rw [pk_uLs] at bj
      refine ⟨fun z => ?_, (hC x y).mpr ⟨n, by omega, bj, tj⟩⟩
      have h := hD n j (by omega) hk (bj.trans z)
      omega
    · rw [pk_un e] at tj
      rw [pk_uLn e] at bj
      exact ⟨fun z => e (hD j k (by omega) hk (bj.trans z)), (hC x y).mpr ⟨j, by omega, bj, tj⟩⟩
/-- what a deletion leaves: hole i, the entry of slot k came from slot g k -/
theorem rv_TX_del {n : Nat} {C : Int64 → Int32 → Prop} {b : Nat → Int64} {t us : Nat → Int32} {s i : Nat} {g : Nat → Nat} (T : rv_TX (n + 1) C b t us) (hs : s < 4) (hus : us s ≠ 0) (hi : i < 4) (hui : us i ≠ 0)
    (h1 : ∀ k, k < 4 → k ≠ i → us k ≠ 0 → g k < 4 ∧ g k ≠ s ∧ us (g k) ≠ 0)
    (h2 : ∀ k j, k < 4 → j < 4 → k ≠ i → j ≠ i → us k ≠ 0 → us j ≠ 0 → g k = g j → k = j)
    (h3 : ∀ k, k < 4 → k ≠ s → us k ≠ 0 → ∃ j, j < 4 ∧ j ≠ i ∧ us j ≠ 0 ∧ g j = k)
    (h4 : ∀ k, k < 4 → k ≠ i → us k ≠ 0 → ∀ r, r < (k + 4 - rv_hm (b (g k))) % 4 → us ((rv_hm (b (g k)) + r) % 4) ≠ 0 ∧ (rv_hm (b (g k)) + r) % 4 ≠ i) :
    rv_TX n (rv_del C (b s)) (vp_updL (fun k => b (g k)) i 0) (upd (fun k => t (g k)) i 0) (upd us i 0) := by
  obtain ⟨hn, hD, hP, _, hC⟩ := T
  have hu : ∀ k, upd us i 0 k ≠ 0 → k ≠ i ∧ us k ≠ 0 := by
    intro k h
    by_cases e : k = i
    · subst e; rw [pk_us] at h; exact absurd rfl h
    · rw [pk_un e] at h; exact ⟨e, h⟩
  refine ⟨?_, ?_, ?_, ⟨i, hi, ?_⟩, fun x y => ⟨?_, ?_⟩⟩
  · have h := rv_cnt_upd (us := us) 0 hi
    rw [rv_o0 rfl, rv_o1 hui] at h
    omega
  · intro k j hk hj uk uj e
    obtain ⟨nk, uk⟩ := hu k uk
    obtain ⟨nj, uj⟩ := hu j uj
    rw [pk_uLn nk, pk_uLn nj] at e
    obtain ⟨a1, _, a3⟩ := h1 k hk nk uk
    obtain ⟨c1, _, c3⟩ := h1 j hj nj uj
    exact h2 k j hk hj nk nj uk uj (hD (g k) (g j) a1 c1 a3 c3 e)
  · intro k hk uk r hr
    obtain ⟨nk, uk⟩ := hu k uk
    rw [pk_uLn nk] at hr ⊢
    obtain ⟨p, q⟩ := h4 k hk nk uk r hr
    rw [pk_un q]
    exact p
  · intro k hk nk uk r hr
    obtain ⟨_, uk⟩ := hu k uk
    rw [pk_uLn nk] at hr ⊢
    exact (h4 k hk nk uk r hr).2
  · rintro ⟨hx, hc⟩
    obtain ⟨k, hk, uk, bk, tk⟩ := (hC x y).mp hc
    have ns : k ≠ s := by
      rintro rfl
      exact hx bk.symm
    obtain ⟨j, hj, nj, uj, e⟩ := h3 k hk ns uk
    refine ⟨j, hj, by rw [pk_un nj]; exact uj, ?_, ?_⟩
    · rw [pk_uLn nj]
      show b (g j) = x
      rw [e]; exact bk
    · rw [pk_un nj]
      show t (g j) = y
      rw [e]; exact tk
  · rintro ⟨k, hk, uk, bk, tk⟩
    obtain ⟨nk, uk⟩ := hu k uk
    rw [pk_uLn nk] at bk
    rw [pk_un nk] at tk
    obtain ⟨a1, a2, a3⟩ := h1 k hk nk uk
    exact ⟨fun z => a2 (hD (g k) s a1 hs a3 hus (bk.trans z)), (hC x y).mpr ⟨g k, a1, a3, bk, tk⟩⟩
/-! ===== the shifting loop as a pure function: m steps left, hole i, place j, sources g ===== -/
def rv_lp (u : Nat → Bool) (h : Nat → Nat) : Nat → Nat → Nat → (Nat → Nat) → Nat × (Nat → Nat)
  | 0, i, _, g => (i, g)
  | m + 1, i, j, g =>
    if u ((j + 1) % 4) = true then
      if ((j + 1) % 4 + 4 - h (g ((j + 1) % 4))) % 4 < ((j + 1) % 4 + 4 - i) % 4 then rv_lp u h m i ((j + 1) % 4) g
      else rv_lp u h m ((j + 1) % 4) ((j + 1) % 4) (fun k => if k = i then g ((j + 1) % 4) else g k)
    else (i, g)
def rv_f4 {α : Type} (a b c d : α) (k : Nat) : α := if k = 0 then a else if k = 1 then b else if k = 2 then c else d
theorem rv_f4_eq {α : Type} (f : Nat → α) {k : Nat} (h : k < 4) : rv_f4 (f 0) (f 1) (f 2) (f 3) k = f k := by
  rcases rv_4 h with rfl | rfl | rfl | rfl <;> rfl
/-- the path of slot k with home h is used, and e isn't on it unless k = e -/
abbrev rv_pp (u : Nat → Bool) (e k h : Nat) : Prop := u k = true → ∀ r, r < (k + 4 - h) % 4 → (u ((h + r) % 4) = true ∧ (k = e ∨ (h + r) % 4 ≠ e))
/-- slot k is used, and isn't i -/
def rv_w (u : Nat → Bool) (i k : Nat) : Bool := !(k == i) && u k
theorem rv_w_of {u : Nat → Bool} {i k : Nat} (h : k ≠ i) (hu : u k = true) : rv_w u i k = true := by
  unfold rv_w
  rw [hu, beq_eq_false_iff_ne.mpr h]
  rfl
theorem rv_w_to {u : Nat → Bool} {i k : Nat} (h : rv_w u i k = true) : k ≠ i ∧ u k = true := by
  unfold rv_w at h
  rw [Bool.and_eq_true, Bool.not_eq_true', beq_eq_false_iff_ne] at h
  exact h
abbrev rv_q1 (u : Nat → Bool) (s i : Nat) (g : Nat → Nat) : Prop := ∀ k, k < 4 → rv_w u i k = true → (g k < 4 ∧ rv_w u s (g k) = true)
abbrev rv_q2 (u : Nat → Bool) (i : Nat) (g : Nat → Nat) : Prop := ∀ k, k < 4 → rv_w u i k = true → ∀ j, j < 4 → rv_w u i j = true → g k = g j → k = j
abbrev rv_q3 (u : Nat → Bool) (s i : Nat) (g : Nat → Nat) : Prop := ∀ k, k < 4 → rv_w u s k = true → ¬ ∀ j, j < 4 → rv_w u i j = true → g j ≠ k
abbrev rv_q4 (u : Nat → Bool) (h : Nat → Nat) (i : Nat) (g : Nat → Nat) : Prop := ∀ k, k < 4 → rv_w u i k = true → ∀ r, r < (k + 4 - h (g k)) % 4 → rv_w u i ((h (g k) + r) % 4) = true
def rv_qq (u : Nat → Bool) (h : Nat → Nat) (s : Nat) (p : Nat × (Nat → Nat)) : Bool := decide (p.1 < 4 ∧ u p.1 = true) && (decide (rv_q1 u s p.1 p.2) && (decide (rv_q2 u p.1 p.2) && (decide (rv_q3 u s p.1 p.2) && decide (rv_q4 u h p.1 p.2))))
theorem rv_qq_to {u : Nat → Bool} {h : Nat → Nat} {s : Nat} {p : Nat × (Nat → Nat)} (Q : rv_qq u h s p = true) : (p.1 < 4 ∧ u p.1 = true) ∧ rv_q1 u s p.1 p.2 ∧ rv_q2 u p.1 p.2 ∧ rv_q3 u s p.1 p.2 ∧ rv_q4 u h p.1 p.2 := by
  unfold rv_qq at Q
  rw [Bool.and_eq_true, Bool.and_eq_true, Bool.and_eq_true, Bool.and_eq_true, decide_eq_true_iff, decide_eq_true_iff, decide_eq_true_iff, decide_eq_true_iff, decide_eq_true_iff] at Q
  exact Q
def rv_pb (u : Nat → Bool) (e k h : Nat) : Bool := decide (rv_pp u e k h)
def rv_b1 (u : Nat → Bool) (h : Nat → Nat) : Bool := decide (∀ s : Fin 4, u s.val = true → rv_qq u h s.val (rv_lp u h 3 s.val s.val (fun k => k)) = true)
def rv_b2 (u : Nat → Bool) (e : Nat) : Bool := decide (∀ h0 : Fin 4, rv_pb u e 0 h0.val = true → ∀ h1 : Fin 4, rv_pb u e 1 h1.val = true → ∀ h2 : Fin 4, rv_pb u e 2 h2.val = true → ∀ h3 : Fin 4, rv_pb u e 3 h3.val = true → rv_b1 u (rv_f4 h0.val h1.val h2.val h3.val) = true)
theorem rv_law0 : ∀ u0 u1 u2 u3 : Bool, ∀ e : Fin 4, rv_b2 (rv_f4 u0 u1 u2 u3) e.val = true := by decide +kernel
theorem rv_law (u0 u1 u2 u3 : Bool) {e h0 h1 h2 h3 s : Nat} (le : e < 4) (l0 : h0 < 4) (l1 : h1 < 4) (l2 : h2 < 4) (l3 : h3 < 4) (hs : s < 4)
    (p0 : rv_pp (rv_f4 u0 u1 u2 u3) e 0 h0) (p1 : rv_pp (rv_f4 u0 u1 u2 u3) e 1 h1) (p2 : rv_pp (rv_f4 u0 u1 u2 u3) e 2 h2) (p3 : rv_pp (rv_f4 u0 u1 u2 u3) e 3 h3) (us : rv_f4 u0 u1 u2 u3 s = true) :
    rv_qq (rv_f4 u0 u1 u2 u3) (rv_f4 h0 h1 h2 h3) s (rv_lp (rv_f4 u0 u1 u2 u3) (rv_f4 h0 h1 h2 h3) 3 s s (fun k => k)) = true :=
  of_decide_eq_true (of_decide_eq_true (rv_law0 u0 u1 u2 u3 ⟨e, le⟩) ⟨h0, l0⟩ (decide_eq_true p0) ⟨h1, l1⟩ (decide_eq_true p1) ⟨h2, l2⟩ (decide_eq_true p2) ⟨h3, l3⟩ (decide_eq_true p3)) ⟨s, hs⟩ us
end
section
/-! ===== 03: the component's walks ===== -/
theorem rv_find_lp {post : Int32 → Prop} {x : Int64} {h : Nat} (hh : h < 4) {f : Int32} {b : Nat → Int64} {t us : Nat → Int32} (hy : ∀ k, k < 4 → us k ≠ 0 → b k = x → post (nI k)) :
    ∀ m p, p + m = 4 → ((∀ q, p ≤ q → q < 4 → us ((h + q) % 4) ≠ 0 → b ((h + q) % 4) = x → ∃ r, p ≤ r ∧ r < q ∧ us ((h + r) % 4) = 0) → post (-1)) → wX_find_9 post x (nI h) f b t us (m + 1) (nI p) := by
  intro m
  induction m with
  | zero =>
    intro p hp hn
    have e : p = 4 := by omega
    subst e
    exact br_t (by decide) (hn fun q h1 h2 => absurd h1 (by omega))
  | succ m ih =>
    intro p hp hn
    have hk : (h + p) % 4 < 4 := Nat.mod_lt _ (by decide)
    have hin : vp_in (nI ((h + p) % 4)) 4 := vp_in_nI hk (by decide)
    have hcl : (nI ((h + p) % 4)).toNatClampNeg = (h + p) % 4 := nI_clamp (by omega)
    refine br_f (nI_ge (b := 4) (by omega) (by decide)) (nm_r (e' := nI ((h + p) % 4)) (rv_add3 (by omega) (by omega)) ?_)
    rw [hcl]
    by_cases z : us ((h + p) % 4) = 0
    · refine ⟨hin, br_t z (hn fun q h1 h2 hu _ => ⟨p, Nat.le_refl p, ?_, z⟩)⟩
      rcases Nat.lt_or_ge p q with l | l
      · exact l
      · have e : q = p := by omega
        subst e
        exact absurd z hu
    · by_cases e : b ((h + p) % 4) = x
      · exact ⟨hin, br_f z ⟨hin, br_t e (hy _ hk z e)⟩⟩
      · refine ⟨hin, br_f z ⟨hin, br_f e (nm_r (nI_1 p) (ih (p + 1) (by omega) fun A => hn fun q h1 h2 hu hb => ?_))⟩⟩
        have ne : q ≠ p := by
          rintro rfl
          exact e hb
        obtain ⟨r, r1, r2, r3⟩ := A q (by omega) h2 hu hb
        exact ⟨r, by omega, r2, r3⟩
theorem rv_find {n : Nat} {C : Int64 → Int32 → Prop} {f : Int32} {b : Nat → Int64} {t us : Nat → Int32} {post : Int32 → Prop} {x : Int64} (T : rv_TX n C b t us) (hy : ∀ k, k < 4 → us k ≠ 0 → b k = x → post (nI k)) (hn : (∀ y, ¬ C x y) → post (-1)) : wpX_find post (f, b, t, us) x := by
  unfold wpX_find
  refine rv_hm_wp ⟨5, ?_⟩
  refine rv_find_lp (rv_hm_lt x) hy 4 0 rfl fun A => hn fun y hc => ?_
  obtain ⟨_, _, hP, _, hC⟩ := T
  obtain ⟨k, hk, uk, bk, _⟩ := (hC x y).mp hc
  have hl := rv_hm_lt x
  have e : (rv_hm x + (k + 4 - rv_hm x) % 4) % 4 = k := by omega
  obtain ⟨r, _, r2, r3⟩ := A ((k + 4 - rv_hm x) % 4) (Nat.zero_le _) (Nat.mod_lt _ (by decide)) (by rw [e]; exact uk) (by rw [e]; exact bk)
  have p := hP k hk uk r
  rw [bk] at p
  exact p r2 r3
theorem rv_ins_lp {post : Int32 → SX → Prop} {x : Int64} {v : Int32} {h : Nat} (hh : h < 4) {n : Nat} {b : Nat → Int64} {t us : Nat → Int32}
    (h0 : ∀ q, q < 4 → us ((h + q) % 4) = 0 → (∀ r, r < q → us ((h + r) % 4) ≠ 0) → post 0 (nI (n + 1), vp_updL b ((h + q) % 4) x, upd t ((h + q) % 4) v, upd us ((h + q) % 4) 1))
    (hf : (∀ q, q < 4 → us ((h + q) % 4) ≠ 0) → post (-1) (nI n, b, t, us)) :
    ∀ m p, p + m = 4 → (∀ r, r < p → us ((h + r) % 4) ≠ 0) → wX_revoke_56 post x v (nI h) (nI n) b t us (m + 1) (nI p) := by
  intro m
  induction m with
  | zero =>
    intro p hp ha
    have e : p = 4 := by omega
    subst e
    exact br_t (by decide) (hf ha)
  | succ m ih =>
    intro p hp ha
    have hk : (h + p) % 4 < 4 := Nat.mod_lt _ (by decide)
    have hin : vp_in (nI ((h + p) % 4)) 4 := vp_in_nI hk (by decide)
    have hcl : (nI ((h + p) % 4)).toNatClampNeg = (h + p) % 4 := nI_clamp (by omega)
    refine br_f (nI_ge (b := 4) (by omega) (by decide)) (nm_r (e' := nI ((h + p) % 4)) (rv_add3 (by omega) (by omega)) ?_)
    rw [hcl]
    by_cases z : us ((h + p) % 4) = 0
    · exact ⟨hin, br_t z ⟨hin, nm_r (congrArg (upd us ((h + p) % 4)) rv_nb1) ⟨hin, nm_e ⟨hin, nm_e (nm_r (nI_1 n) (h0 p (by omega) z ha))⟩⟩⟩⟩
    · refine ⟨hin, br_f z (nm_r (nI_1 p) (ih (p + 1) (by omega) fun r hr => ?_))⟩
      rcases Nat.lt_or_ge r p with l | l
      · exact ha r l
      · have e : r = p := by omega
        subst e
        exact z
theorem rv_revokeX {n : Nat} {C : Int64 → Int32 → Prop} {b : Nat → Int64} {t us : Nat → Int32} {post : Int32 → SX → Prop} {x : Int64} {v : Int32} (T : rv_TX n C b t us)
    (h2 : ∀ y, C x y → v - y ≤ 0 → post 2 (nI n, b, t, us))
    (h1 : ∀ y, C x y → ¬ v - y ≤ 0 → ∀ b' t' us', rv_TX n (rv_set C x v) b' t' us' → post 1 (nI n, b', t', us'))
    (hf : (∀ y, ¬ C x y) → n = 4 → post (-1) (nI n, b, t, us))
    (h0 : (∀ y, ¬ C x y) → n < 4 → ∀ b' t' us', rv_TX (n + 1) (rv_set C x v) b' t' us' → post 0 (nI (n + 1), b', t', us')) : wpX_revoke post (nI n, b, t, us) x v := by
  have hn4 : n ≤ 4 := by rw [T.1]; exact rv_cnt_le us
  unfold wpX_revoke
  refine rv_find T (fun k hk uk bk => ?_) (fun hn => ?_)
  · have hin : vp_in (nI k) 4 := vp_in_nI hk (by decide)
    have hcl : (nI k).toNatClampNeg = k := nI_clamp (by omega)
    have hc : C x (t k) := (T.2.2.2.2 x (t k)).mpr ⟨k, hk, uk, bk, rfl⟩
    refine br_f (nI_pos (by omega)) ⟨hin, ?_⟩
    rw [hcl]
    refine br_c (fun z => h2 _ hc z) (fun z => ⟨hin, nm_e (h1 _ hc z _ _ _ ?_)⟩)
    have T' := rv_TX_set v T hk uk
    rw [bk] at T'
    exact T'
  · refine br_t (by decide) (pk_lt n 4 (fun l => rv_hm_wp ⟨5, ?_⟩) (fun l => hf hn (by omega)))
    have hl := rv_hm_lt x
    refine rv_ins_lp hl (fun q hq hu hp => h0 hn l _ _ _ ?_) (fun A => ?_) 4 0 rfl (fun r hr => absurd hr (by omega))
    · refine rv_TX_ins v T (Nat.mod_lt _ (by decide)) hu hn (fun r hr => hp r ?_) (by decide)
      omega
    · have e : rv_cnt us = 4 := by
        apply rv_cnt_all
        intro k hk
        have e : (rv_hm x + (k + 4 - rv_hm x) % 4) % 4 = k := by omega
        have z := A ((k + 4 - rv_hm x) % 4) (Nat.mod_lt _ (by decide))
        rw [e] at z
        exact z
      have e' := T.1
      omega
theorem rv_replayX {n : Nat} {C : Int64 → Int32 → Prop} {b : Nat → Int64} {t us : Nat → Int32} {post : Int32 → Prop} {x : Int64} {v : Int32} (T : rv_TX n C b t us)
    (h0 : ∀ y, C x y → v - y ≤ 0 → post 0) (h1 : ∀ y, C x y → ¬ v - y ≤ 0 → post 1) (hn : (∀ y, ¬ C x y) → post 1) : wpX_replayOk post (nI n, b, t, us) x v := by
  unfold wpX_replayOk
  refine rv_find T (fun k hk uk bk => ?_) (fun hc => br_f (by decide) (hn hc))
  have hin : vp_in (nI k) 4 := vp_in_nI hk (by decide)
  have hcl : (nI k).toNatClampNeg = k := nI_clamp (by omega)
  have hc : C x (t k) := (T.2.2.2.2 x (t k)).mpr ⟨k, hk, uk, bk, rfl⟩
  refine br_t (nI_pos' (by omega)) ⟨hin, ?_⟩
  rw [hcl]
  exact br_c (fun z => h0 _ hc z) (fun z => h1 _ hc z)
/-! ===== cancel ===== -/
theorem rv_c124 {post : Int32 → SX → Prop} {i m : Nat} (hi : i < 4) {b : Nat → Int64} {t us : Nat → Int32} (K : post 1 (nI m, vp_updL b i 0, upd t i 0, upd us i 0)) : wX_cancel_124 post (nI i) (nI (m + 1)) b t us := by
  have hin : vp_in (nI i) 4 := vp_in_nI hi (by decide)
  have hcl : (nI i).toNatClampNeg = i := nI_clamp (by omega)
  unfold wX_cancel_124
  rw [hcl]
  exact ⟨hin, nm_r (congrArg (upd us i) rv_nb0) ⟨hin, nm_e ⟨hin, nm_e (nm_r (nI_pred m) K)⟩⟩⟩
theorem rv_mvL {b : Nat → Int64} {g : Nat → Nat} {i j : Nat} : vp_updL (fun k => b (g k)) i (b (g j)) = fun k => b ((fun k => if k = i then g j else g k) k) := by
  funext k
  by_cases e : k = i
  · subst e; rw [pk_uLs]; show _ = b (if k = k then g j else g k); rw [if_pos rfl]
  · rw [pk_uLn e]; show _ = b (if k = i then g j else g k); rw [if_neg e]
theorem rv_mvI {t : Nat → Int32} {g : Nat → Nat} {i j : Nat} : upd (fun k => t (g k)) i (t (g j)) = fun k => t ((fun k => if k = i then g j else g k) k) := by
  funext k
  by_cases e : k = i
  · subst e; rw [pk_us]; show _ = t (if k = k then g j else g k); rw [if_pos rfl]
  · rw [pk_un e]; show _ = t (if k = i then g j else g k); rw [if_neg e]
theorem rv_c21 {post : Int32 → SX → Prop} {f : Int32} {b : Nat → Int64} {t us : Nat → Int32} {U : Nat → Bool} {H : Nat → Nat} (hU : ∀ k, k < 4 → (U k = true ↔ us k ≠ 0)) (hH : ∀ k, k < 4 → H k = rv_hm (b k)) :
    ∀ m p i j (g : Nat → Nat), p + m = 3 → i < 4 → j < 4 → (∀ k, k < 4 → g k < 4) →
      wX_cancel_124 post (nI (rv_lp U H m i j g).1) f (fun k => b ((rv_lp U H m i j g).2 k)) (fun k => t ((rv_lp U H m i j g).2 k)) us →
      wX_cancel_21 post f (m + 1) (nI i) (nI j) (nI p) (fun k => b (g k)) (fun k => t (g k)) us := by
  intro m
  induction m with
  | zero =>
    intro p i j g hp hi hj hg K
    have e : p = 3 := by omega
    subst e
    exact br_t (by decide) K
  | succ m ih =>
    intro p i j g hp hi hj hg K
    rw [rv_lp] at K
    have hk : (j + 1) % 4 < 4 := Nat.mod_lt _ (by decide)
    refine br_f (nI_ge (b := 3) (by omega) (by decide)) (nm_r (e' := nI ((j + 1) % 4)) (rv_add3 (b := 1) (by omega) (by decide)) ?_)
    generalize (j + 1) % 4 = q at hk K ⊢
    have hin : vp_in (nI q) 4 := vp_in_nI hk (by decide)
    have hcl : (nI q).toNatClampNeg = q := nI_clamp (by omega)
    have hin' : vp_in (nI i) 4 := vp_in_nI hi (by decide)
    have hcl' : (nI i).toNatClampNeg = i := nI_clamp (by omega)
    rw [hcl, hcl']
    by_cases z : us q = 0
    · have zu : ¬ U q = true := fun c => (hU q hk).mp c z
      rw [if_neg zu] at K
      exact ⟨hin, br_t z K⟩
    · have zu : U q = true := (hU q hk).mpr z
      rw [if_pos zu] at K
      refine ⟨hin, br_f z ⟨hin, rv_hm_wp ?_⟩⟩
      have hl := rv_hm_lt (b (g q))
      have hh : H (g q) = rv_hm (b (g q)) := hH (g q) (hg q hk)
      rw [hh] at K
      refine nm_r (rv_sub3 q hk _ hl) (nm_r (rv_sub3 q hk i hi) ?_)
      refine pk_lt ((q + 4 - rv_hm (b (g q))) % 4) ((q + 4 - i) % 4) (fun l => ?_) (fun l => ?_)
      · rw [if_pos l] at K
        exact nm_r (nI_1 p) (ih (p + 1) i q g (by omega) hi hk hg K)
      · rw [if_neg (Nat.not_lt.mpr l)] at K
        refine ⟨hin, hin', nm_r rv_mvL ⟨hin, hin', nm_r rv_mvI (nm_r (nI_1 p) (ih (p + 1) q q (fun k => if k = i then g q else g k) (by omega) hk hk (fun k h => ?_) K))⟩⟩
        show (if k = i then g q else g k) < 4
        split
        · exact hg q hk
        · exact hg k h
theorem rv_del_use {n : Nat} {C : Int64 → Int32 → Prop} {b : Nat → Int64} {t us : Nat → Int32} {U : Nat → Bool} {H : Nat → Nat} {s : Nat} {p : Nat × (Nat → Nat)} (T : rv_TX (n + 1) C b t us) (hs : s < 4) (hus : us s ≠ 0) (hU : ∀ k, k < 4 → (U k = true ↔ us k ≠ 0)) (hH : ∀ k, k < 4 → H k = rv_hm (b k)) (Q : rv_qq U H s p = true) :
    rv_TX n (rv_del C (b s)) (vp_updL (fun k => b (p.2 k)) p.1 0) (upd (fun k => t (p.2 k)) p.1 0) (upd us p.1 0) ∧ p.1 < 4 := by
  obtain ⟨i, g⟩ := p
  obtain ⟨⟨a, ui⟩, q1, q2, q3, q4⟩ := rv_qq_to Q
  refine ⟨rv_TX_del T hs hus a ((hU i a).mp ui) ?_ ?_ ?_ ?_, a⟩
  · intro k hk nk uk
    obtain ⟨A1, A2⟩ := q1 k hk (rv_w_of nk ((hU k hk).mpr uk))
    obtain ⟨A3, A4⟩ := rv_w_to A2
    exact ⟨A1, A3, (hU (g k) A1).mp A4⟩
  · intro k j hk hj nk nj uk uj e
    exact q2 k hk (rv_w_of nk ((hU k hk).mpr uk)) j hj (rv_w_of nj ((hU j hj).mpr uj)) e
  · intro k hk ns uk
    apply Classical.byContradiction
    intro N
    refine q3 k hk (rv_w_of ns ((hU k hk).mpr uk)) fun j hj wj e => ?_
    obtain ⟨nj, uj⟩ := rv_w_to wj
    exact N ⟨j, hj, nj, (hU j hj).mp uj, e⟩
  · intro k hk nk uk r hr
    have w := rv_w_of nk ((hU k hk).mpr uk)
    have e : H (g k) = rv_hm (b (g k)) := hH (g k) (q1 k hk w).1
    have A : rv_w U i ((H (g k) + r) % 4) = true := q4 k hk w r (by show r < (k + 4 - H (g k)) % 4; rw [e]; exact hr)
    rw [e] at A
    obtain ⟨A1, A2⟩ := rv_w_to A
    exact ⟨(hU _ (Nat.mod_lt _ (by decide))).mp A2, A1⟩
theorem rv_cancelX {n : Nat} {C : Int64 → Int32 → Prop} {b : Nat → Int64} {t us : Nat → Int32} {post : Int32 → SX → Prop} {x : Int64} (T : rv_TX n C b t us)
    (h0 : (∀ y, ¬ C x y) → post 0 (nI n, b, t, us))
    (h1 : ∀ m y, C x y → n = m + 1 → ∀ b' t' us', rv_TX m (rv_del C x) b' t' us' → post 1 (nI m, b', t', us')) : wpX_cancel post (nI n, b, t, us) x := by
  unfold wpX_cancel
  refine rv_find T (fun s hs ss bs => ?_) (fun hn => br_f (by decide) (h0 hn))
  have hc : C x (t s) := (T.2.2.2.2 x (t s)).mpr ⟨s, hs, ss, bs, rfl⟩
  obtain ⟨m, hm⟩ : ∃ m, n = m + 1 := by
    have h := rv_cnt_upd (us := us) 0 hs
    rw [rv_o0 rfl, rv_o1 ss] at h
    exact ⟨rv_cnt (upd us s 0), by rw [T.1]; omega⟩
  subst hm
  have hU : ∀ k, k < 4 → (rv_f4 (decide (us 0 ≠ 0)) (decide (us 1 ≠ 0)) (decide (us 2 ≠ 0)) (decide (us 3 ≠ 0)) k = true ↔ us k ≠ 0) := by
    intro k hk
    rw [rv_f4_eq (fun k => decide (us k ≠ 0)) hk]
    exact decide_eq_true_iff
  have hH : ∀ k, k < 4 → rv_f4 (rv_hm (b 0)) (rv_hm (b 1)) (rv_hm (b 2)) (rv_hm (b 3)) k = rv_hm (b k) := fun k hk => rv_f4_eq (fun k => rv_hm (b k)) hk
  obtain ⟨e, he, hE⟩ := T.2.2.2.1
  have pth : ∀ k, k < 4 → rv_pp (rv_f4 (decide (us 0 ≠ 0)) (decide (us 1 ≠ 0)) (decide (us 2 ≠ 0)) (decide (us 3 ≠ 0))) e k (rv_hm (b k)) := by
    intro k hk uk r hr
    have uk' := (hU k hk).mp uk
    refine ⟨(hU _ (Nat.mod_lt _ (by decide))).mpr (T.2.2.1 k hk uk' r hr), ?_⟩
    by_cases z : k = e
    · exact Or.inl z
    · exact Or.inr (hE k hk z uk' r hr)
  have L := rv_law (decide (us 0 ≠ 0)) (decide (us 1 ≠ 0)) (decide (us 2 ≠ 0)) (decide (us 3 ≠ 0)) he (rv_hm_lt (b 0)) (rv_hm_lt (b 1)) (rv_hm_lt (b 2)) (rv_hm_lt (b 3)) hs (pth 0 (by decide)) (pth 1 (by decide)) (pth 2 (by decide)) (pth 3 (by decide)) ((hU s hs).mpr ss)
  refine br_t (nI_pos' (by omega)) ⟨4, rv_c21 hU hH 3 0 s s (fun k => k) rfl hs hs (fun k h => h) ?_⟩
  have L' := rv_del_use T hs ss hU hH L
  refine rv_c124 L'.2 (h1 m _ hc rfl _ _ _ ?_)
  rw [← bs]
  exact L'.1
end
section
/-! ===== 04: the reference's walks ===== -/
theorem rv_f62 {post : Int32 → Prop} {x : Int64} {n : Nat} {c : Nat → Int64} {d : Nat → Int32} (h4 : n ≤ 4) (hy : ∀ i, i < n → c i = x → post (nI i)) (hn : (3 < n → c 3 ≠ x) → post (-1)) : wY_find_62 post x (nI n) c d := by
  unfold wY_find_62
  exact pk_le n 3 (fun h => hn fun z => absurd z (by omega)) (fun h => br_c (fun e => hy 3 h e) (fun e => hn fun _ => e))
theorem rv_f41 {post : Int32 → Prop} {x : Int64} {n : Nat} {c : Nat → Int64} {d : Nat → Int32} (h4 : n ≤ 4) (hy : ∀ i, i < n → c i = x → post (nI i)) (hn : (2 < n → c 2 ≠ x) → (3 < n → c 3 ≠ x) → post (-1)) : wY_find_41 post x (nI n) c d := by
  unfold wY_find_41
  exact pk_le n 2 (fun h => rv_f62 h4 hy (hn fun z => absurd z (by omega))) (fun h => br_c (fun e => hy 2 h e) (fun e => rv_f62 h4 hy (hn fun _ => e)))
theorem rv_f20 {post : Int32 → Prop} {x : Int64} {n : Nat} {c : Nat → Int64} {d : Nat → Int32} (h4 : n ≤ 4) (hy : ∀ i, i < n → c i = x → post (nI i)) (hn : (1 < n → c 1 ≠ x) → (2 < n → c 2 ≠ x) → (3 < n → c 3 ≠ x) → post (-1)) : wY_find_20 post x (nI n) c d := by
  unfold wY_find_20
  exact pk_le n 1 (fun h => rv_f41 h4 hy (hn fun z => absurd z (by omega))) (fun h => br_c (fun e => hy 1 h e) (fun e => rv_f41 h4 hy (hn fun _ => e)))
theorem rv_findY {n : Nat} {C : Int64 → Int32 → Prop} {post : Int32 → Prop} {x : Int64} {c : Nat → Int64} {d : Nat → Int32} (T : rv_TY n C c d) (hy : ∀ i, i < n → c i = x → post (nI i)) (hn : (∀ y, ¬ C x y) → post (-1)) : wpY_find post (nI n, c, d) x := by
  have h4 := T.1
  have hn' : (0 < n → c 0 ≠ x) → (1 < n → c 1 ≠ x) → (2 < n → c 2 ≠ x) → (3 < n → c 3 ≠ x) → post (-1) := by
    intro a0 a1 a2 a3
    refine hn fun y hc => ?_
    obtain ⟨i, hi, ci, _⟩ := (T.2.2 x y).mp hc
    rcases rv_4 (show i < 4 by omega) with rfl | rfl | rfl | rfl
    · exact a0 hi ci
    · exact a1 hi ci
    · exact a2 hi ci
    · exact a3 hi ci
  unfold wpY_find
  exact pk_le n 0 (fun h => rv_f20 h4 hy (hn' fun z => absurd z (by omega))) (fun h => br_c (fun e => hy 0 h e) (fun e => rv_f20 h4 hy (hn' fun _ => e)))
theorem rv_revokeY {n : Nat} {C : Int64 → Int32 → Prop} {c : Nat → Int64} {d : Nat → Int32} {post : Int32 → SY → Prop} {x : Int64} {v : Int32} (T : rv_TY n C c d)
    (h2 : ∀ y, C x y → v - y ≤ 0 → post 2 (nI n, c, d))
    (h1 : ∀ y, C x y → ¬ v - y ≤ 0 → ∀ c' d', rv_TY n (rv_set C x v) c' d' → post 1 (nI n, c', d'))
    (hf : (∀ y, ¬ C x y) → n = 4 → post (-1) (nI n, c, d))
    (h0 : (∀ y, ¬ C x y) → n < 4 → ∀ c' d', rv_TY (n + 1) (rv_set C x v) c' d' → post 0 (nI (n + 1), c', d')) : wpY_revoke post (nI n, c, d) x v := by
  have hn4 := T.1
  unfold wpY_revoke
  refine rv_findY T (fun k hk bk => ?_) (fun hn => ?_)
  · have hin : vp_in (nI k) 4 := vp_in_nI (by omega) (by decide)
    have hcl : (nI k).toNatClampNeg = k := nI_clamp (by omega)
    have hc : C x (d k) := (T.2.2 x (d k)).mpr ⟨k, hk, bk, rfl⟩
    refine br_f (nI_pos (by omega)) ⟨hin, ?_⟩
    rw [hcl]
    refine br_c (fun z => h2 _ hc z) (fun z => ⟨hin, nm_e (h1 _ hc z _ _ ?_)⟩)
    have T' := rv_TY_set v T hk
    rw [bk] at T'
    exact T'
  · refine br_t (by decide) (pk_eq n 4 (fun l => hf hn l) (fun l => ?_))
    have l4 : n < 4 := by omega
    have hin : vp_in (nI n) 4 := vp_in_nI l4 (by decide)
    have hcl : (nI n).toNatClampNeg = n := nI_clamp (by omega)
    rw [hcl]
    exact ⟨hin, nm_e (nm_r (nI_1 n) ⟨hin, nm_e (h0 hn l4 _ _ (rv_TY_ins v T l4 hn))⟩)⟩
theorem rv_replayY {n : Nat} {C : Int64 → Int32 → Prop} {c : Nat → Int64} {d : Nat → Int32} {post : Int32 → Prop} {x : Int64} {v : Int32} (T : rv_TY n C c d)
    (h0 : ∀ y, C x y → v - y ≤ 0 → post 0) (h1 : ∀ y, C x y → ¬ v - y ≤ 0 → post 1) (hn : (∀ y, ¬ C x y) → post 1) : wpY_replayOk post (nI n, c, d) x v := by
  have hn4 := T.1
  unfold wpY_replayOk
  refine rv_findY T (fun k hk bk => ?_) (fun hc => br_t (by decide) (hn hc))
  have hin : vp_in (nI k) 4 := vp_in_nI (by omega) (by decide)
  have hcl : (nI k).toNatClampNeg = k := nI_clamp (by omega)
  have hc : C x (d k) := (T.2.2 x (d k)).mpr ⟨k, hk, bk, rfl⟩
  refine br_f (nI_pos (by omega)) ⟨hin, ?_⟩
  rw [hcl]
  exact br_c (fun z => h0 _ hc z) (fun z => h1 _ hc z)
theorem rv_cancelY {n : Nat} {C : Int64 → Int32 → Prop} {c : Nat → Int64} {d : Nat → Int32} {post : Int32 → SY → Prop} {x : Int64} (T : rv_TY n C c d)
    (h0 : (∀ y, ¬ C x y) → post 0 (nI n, c, d))
    (h1 : ∀ m y, C x y → n = m + 1 → ∀ c' d', rv_TY m (rv_del C x) c' d' → post 1 (nI m, c', d')) : wpY_cancel post (nI n, c, d) x := by
  have hn4 := T.1
  unfold wpY_cancel
  refine rv_findY T (fun k hk bk => ?_) (fun hn => br_f (by decide) (h0 hn))
  have hc : C x (d k) := (T.2.2 x (d k)).mpr ⟨k, hk, bk, rfl⟩
  obtain ⟨m, hm⟩ : ∃ m, n = m + 1 := ⟨n - 1, by omega⟩
  subst hm
  have hin : vp_in (nI k) 4 := vp_in_nI (by omega) (by decide)
  have hcl : (nI k).toNatClampNeg = k := nI_clamp (by omega)
  have hin' : vp_in (nI m) 4 := vp_in_nI (by omega) (by decide)
  have hcl' : (nI m).toNatClampNeg = m := nI_clamp (by omega)
  refine br_t (nI_pos' (by omega)) (nm_r (nI_pred m) ?_)
  rw [nI_pred m, hcl, hcl']
  refine ⟨hin', hin, nm_e ⟨hin', hin, nm_e (h1 m _ hc rfl _ _ ?_)⟩⟩
  have T' := rv_TY_del T hk
  rw [bk] at T'
  exact T'
end
section
/-! ===== 05: what is owed ===== -/
/-- both sides hold one content C of n pairs -/
def i_Rel (_ : Nat) (u : SX) (v : SY) : Prop := ∃ (n : Nat) (C : Int64 → Int32 → Prop) (b : Nat → Int64) (t us : Nat → Int32) (c : Nat → Int64) (d : Nat → Int32), u = (nI n, b, t, us) ∧ v = (nI n, c, d) ∧ rv_TX n C b t us ∧ rv_TY n C c d
theorem rv_mk {k n : Nat} {C : Int64 → Int32 → Prop} {b : Nat → Int64} {t us : Nat → Int32} {c : Nat → Int64} {d : Nat → Int32} (hX : rv_TX n C b t us) (hY : rv_TY n C c d) : i_Rel k (nI n, b, t, us) (nI n, c, d) := ⟨n, C, b, t, us, c, d, rfl, rfl, hX, hY⟩
theorem i_up {k : Nat} {u : SX} {v : SY} (h : i_Rel k u v) : i_Rel (k + 4) u v := h
theorem i_vc0 : wpX_init (fun u => wpY_init (fun v => i_Rel 0 u v)) := by
  refine rv_mk (k := 0) (n := 0) (C := fun _ _ => False) ⟨rfl, ?_, ?_, ⟨0, by omega, ?_⟩, ?_⟩ ⟨by omega, ?_, ?_⟩
  · intro k j _ _ h
    exact absurd rfl h
  · intro k _ h
    exact absurd rfl h
  · intro k _ _ h
    exact absurd rfl h
  · intro x y
    exact ⟨fun h => h.elim, fun ⟨_, _, h, _⟩ => h rfl⟩
  · intro i j hi
    omega
  · intro x y
    exact ⟨fun h => h.elim, fun ⟨_, h, _⟩ => absurd h (by omega)⟩
theorem i_vc_revoke {k : Nat} {u : SX} {v : SY} (I : i_Rel k u v) (hk : k + 4 ≤ 2048) (a0 : Int64) (v3 : Int32) : wpX_revoke (fun r u' => wpY_revoke (fun r' v' => r' = r ∧ i_Rel (k + 4) u' v') v a0 v3) u a0 v3 := by
  obtain ⟨n, C, b, t, us, c, d, rfl, rfl, hX, hY⟩ := I
  refine rv_revokeX hX ?_ ?_ ?_ ?_
  · intro y hy hle
    refine rv_revokeY hY (fun _ _ _ => ⟨rfl, rv_mk hX hY⟩) (fun z hz hgt => ?_) (fun hn => absurd hy (hn y)) (fun hn => absurd hy (hn y))
    rw [rv_TY_fun hY hz hy] at hgt
    exact absurd hle hgt
  · intro y hy hgt b' t' us' hX'
    refine rv_revokeY hY (fun z hz hle => ?_) (fun _ _ _ c' d' hY' => ⟨rfl, rv_mk hX' hY'⟩) (fun hn => absurd hy (hn y)) (fun hn => absurd hy (hn y))
    rw [rv_TY_fun hY hz hy] at hle
    exact absurd hle hgt
  · intro hn e
    exact rv_revokeY hY (fun z hz => absurd hz (hn z)) (fun z hz => absurd hz (hn z)) (fun _ _ => ⟨rfl, rv_mk hX hY⟩) (fun _ l => absurd e (by omega))
  · intro hn l b' t' us' hX'
    exact rv_revokeY hY (fun z hz => absurd hz (hn z)) (fun z hz => absurd hz (hn z)) (fun _ e => absurd e (by omega)) (fun _ _ c' d' hY' => ⟨rfl, rv_mk hX' hY'⟩)
theorem i_vc_cancel {k : Nat} {u : SX} {v : SY} (I : i_Rel k u v) (hk : k + 4 ≤ 2048) (a0 : Int64) : wpX_cancel (fun r u' => wpY_cancel (fun r' v' => r' = r ∧ i_Rel (k + 4) u' v') v a0) u a0 := by
  obtain ⟨n, C, b, t, us, c, d, rfl, rfl, hX, hY⟩ := I
  refine rv_cancelX hX ?_ ?_
  · intro hn
    exact rv_cancelY hY (fun _ => ⟨rfl, rv_mk hX hY⟩) (fun _ z hz => absurd hz (hn z))
  · intro m y hy e b' t' us' hX'
    refine rv_cancelY hY (fun hn => absurd hy (hn y)) (fun m' z hz e' c' d' hY' => ?_)
    have em : m' = m := by omega
    subst em
    exact ⟨rfl, rv_mk hX' hY'⟩
theorem i_vc_replayOk {k : Nat} {u : SX} {v : SY} (I : i_Rel k u v) (hk : k + 4 ≤ 2048) (a0 : Int64) (v3 : Int32) : wpX_replayOk (fun r => wpY_replayOk (fun r' => r' = r ∧ i_Rel (k + 4) u v) v a0 v3) u a0 v3 := by
  obtain ⟨n, C, b, t, us, c, d, rfl, rfl, hX, hY⟩ := I
  have R : i_Rel (k + 4) (nI n, b, t, us) (nI n, c, d) := rv_mk hX hY
  refine rv_replayX hX ?_ ?_ ?_
  · intro y hy hle
    refine rv_replayY hY (fun _ _ _ => ⟨rfl, R⟩) (fun z hz hgt => ?_) (fun hn => absurd hy (hn y))
    rw [rv_TY_fun hY hz hy] at hgt
    exact absurd hle hgt
  · intro y hy hgt
    refine rv_replayY hY (fun z hz hle => ?_) (fun _ _ _ => ⟨rfl, R⟩) (fun hn => absurd hy (hn y))
    rw [rv_TY_fun hY hz hy] at hle
    exact absurd hle hgt
  · intro hn
    exact rv_replayY hY (fun z hz => absurd hz (hn z)) (fun z hz => absurd hz (hn z)) (fun _ => ⟨rfl, R⟩)
theorem i_vc_count {k : Nat} {u : SX} {v : SY} (I : i_Rel k u v) (hk : k + 4 ≤ 2048) : wpX_count (fun r => wpY_count (fun r' => r' = r ∧ i_Rel (k + 4) u v) v) u := by
  obtain ⟨n, C, b, t, us, c, d, rfl, rfl, hX, hY⟩ := I
  exact ⟨rfl, rv_mk hX hY⟩
end
