section
/-! pure rows: sums of longs, a row's picture, no program in sight -/
theorem er_us {f : Nat → Int32} {k : Nat} {x : Int32} : upd f k x k = x := if_pos rfl
theorem er_un {f : Nat → Int32} {k j : Nat} {x : Int32} (h : j ≠ k) : upd f k x j = f j := if_neg h
theorem er_ue {f : Nat → Int32} {k j : Nat} {x : Int32} (h : j = k) : upd f k x j = x := if_pos h
theorem er_mul (a b : Nat) : nI a * nI b = nI (a * b) := (Int32.ofNat_mul a b).symm
/-- the sum of the first n longs of g, from the left -/
def er_S (g : Nat → Int64) : Nat → Int64
  | 0 => 0
  | n + 1 => er_S g n + g n
theorem er_Sc {g h : Nat → Int64} : ∀ n : Nat, (∀ s, s < n → g s = h s) → er_S g n = er_S h n := by
  intro n
  induction n with
  | zero => intro _; rfl
  | succ n ih =>
    intro e
    show er_S g n + g n = er_S h n + h n
    rw [ih (fun s hs => e s (by omega)), e n (by omega)]
theorem er_Sz {h : Nat → Int64} : ∀ n : Nat, (∀ s, s < n → h s = 0) → er_S h n = 0 := by
  intro n
  induction n with
  | zero => intro _; rfl
  | succ n ih =>
    intro e
    show er_S h n + h n = 0
    rw [ih (fun s hs => e s (by omega)), e n (by omega), Int64.add_zero]
/-- one summand taken out -/
theorem er_Sp {h : Nat → Int64} {i : Nat} : ∀ K : Nat, i < K → er_S h K = er_S (fun c => if c = i then 0 else h c) K + h i := by
  intro K
  induction K with
  | zero => intro hi; omega
  | succ K ih =>
    intro hi
    show er_S h K + h K = er_S (fun c => if c = i then 0 else h c) K + (if K = i then 0 else h K) + h i
    by_cases e : K = i
    · rw [if_pos e, Int64.add_zero, e]
      congr 1
      exact er_Sc i (fun s hs => (if_neg (show ¬ s = i by omega)).symm)
    · rw [if_neg e, ih (by omega), Int64.add_assoc, Int64.add_comm (h i) (h K), ← Int64.add_assoc]
/-- a sum in the order of storing is the sum in the order of columns -/
theorem er_Ss {p : Nat → Nat} {K : Nat} : ∀ (n : Nat) (h : Nat → Int64), (∀ s, s < n → p s < K) → (∀ s t, s < n → t < n → p s = p t → s = t) → (∀ c, c < K → (∀ s, s < n → p s ≠ c) → h c = 0) → er_S (fun s => h (p s)) n = er_S h K := by
  intro n
  induction n with
  | zero =>
    intro h _ _ hz
    exact (er_Sz K (fun c hc => hz c hc (fun s hs => by omega))).symm
  | succ n ih =>
    intro h hp hi hz
    rw [er_Sp K (hp n (by omega))]
    show er_S (fun s => h (p s)) n + h (p n) = _
    congr 1
    rw [← ih (fun c => if c = p n then 0 else h c) (fun s hs => hp s (by omega)) (fun s t hs ht e => hi s t (by omega) (by omega) e) ?_]
    · refine er_Sc n (fun s hs => ?_)
      have : ¬ p s = p n := fun e => by
        have := hi s n (by omega) (by omega) e
        omega
      exact (if_neg this).symm
    · intro c hc hs
      show (if c = p n then 0 else h c) = 0
      by_cases e : c = p n
      · exact if_pos e
      · rw [if_neg e]
        refine hz c hc (fun s hs' => ?_)
        by_cases e2 : s = n
        · rw [e2]; exact fun z => e z.symm
        · exact hs s (by omega)
/-- row r of both states, with n entries, entry s in column p s -/
def er_Row (a_cols a_vals a_m a_has a_cnt : Nat → Int32) (r n : Nat) (p : Nat → Nat) : Prop :=
  n ≤ 3 ∧ a_cnt r = nI n ∧
  (∀ s, s < n → p s < 8 ∧ a_cols (r * 3 + s) = nI (p s) ∧ a_vals (r * 3 + s) = a_m (r * 8 + p s) ∧ a_has (r * 8 + p s) ≠ 0) ∧
  (∀ s, n ≤ s → s < 3 → a_cols (r * 3 + s) = -1) ∧
  (∀ c, c < 8 → (∀ s, s < n → p s ≠ c) → a_has (r * 8 + c) = 0) ∧
  (∀ s t, s < n → t < n → p s = p t → s = t)
def er_Rows (a_cols a_vals a_m a_has a_cnt : Nat → Int32) : Prop :=
  ∀ r, r < 4 → ∃ (n : Nat) (p : Nat → Nat), er_Row a_cols a_vals a_m a_has a_cnt r n p
/-- rows other than the one stored into -/
theorem er_else {a_cols a_vals a_m a_has a_cnt b_cols b_vals b_m b_has b_cnt : Nat → Int32} {r n : Nat} {p : Nat → Nat}
    (h : er_Row a_cols a_vals a_m a_has a_cnt r n p)
    (e1 : ∀ s, s < 3 → b_cols (r * 3 + s) = a_cols (r * 3 + s)) (e2 : ∀ s, s < 3 → b_vals (r * 3 + s) = a_vals (r * 3 + s))
    (e3 : ∀ c, c < 8 → b_m (r * 8 + c) = a_m (r * 8 + c)) (e4 : ∀ c, c < 8 → b_has (r * 8 + c) = a_has (r * 8 + c))
    (e5 : b_cnt r = a_cnt r) : er_Row b_cols b_vals b_m b_has b_cnt r n p := by
  obtain ⟨h1, h2, h3, h4, h5, h6⟩ := h
  refine ⟨h1, e5.trans h2, fun s hs => ?_, fun s h0 hs => (e1 s hs).trans (h4 s h0 hs), fun c hc hn => (e4 c hc).trans (h5 c hc hn), h6⟩
  obtain ⟨g1, g2, g3, g4⟩ := h3 s hs
  refine ⟨g1, (e1 s (by omega)).trans g2, ?_, ?_⟩
  · rw [e2 s (by omega), e3 _ g1]; exact g3
  · rw [e4 _ g1]; exact g4
/-- a value stored at an entry that is there -/
theorem er_set {a_cols a_vals a_m a_has a_cnt : Nat → Int32} (H : er_Rows a_cols a_vals a_m a_has a_cnt) {r n : Nat} {p : Nat → Nat} (hr : r < 4)
    (h : er_Row a_cols a_vals a_m a_has a_cnt r n p) {s : Nat} (hs : s < n) (v : Int32) :
    er_Rows a_cols (upd a_vals (r * 3 + s) v) (upd a_m (r * 8 + p s) v) a_has a_cnt := by
  have hn : n ≤ 3 := h.1
  have hp : p s < 8 := (h.2.2.1 s hs).1
  intro q hq
  by_cases e : q = r
  · rw [e]
    refine ⟨n, p, ?_⟩
    obtain ⟨h1, h2, h3, h4, h5, h6⟩ := h
    refine ⟨h1, h2, fun t ht => ?_, h4, h5, h6⟩
    obtain ⟨g1, g2, g3, g4⟩ := h3 t ht
    refine ⟨g1, g2, ?_, g4⟩
    by_cases e2 : t = s
    · rw [e2, er_us, er_us]
    · have e3 : p t ≠ p s := fun z => e2 (h6 t s ht hs z)
      rw [er_un (by omega), er_un (by omega)]
      exact g3
  · obtain ⟨n', p', h'⟩ := H q hq
    refine ⟨n', p', er_else h' (fun _ _ => rfl) (fun t ht => er_un (by omega)) (fun c hc => er_un (by omega)) (fun _ _ => rfl) rfl⟩
/-- a new entry -/
theorem er_new {a_cols a_vals a_m a_has a_cnt : Nat → Int32} (H : er_Rows a_cols a_vals a_m a_has a_cnt) {r n : Nat} {p : Nat → Nat} (hr : r < 4)
    (h : er_Row a_cols a_vals a_m a_has a_cnt r n p) (hn : n < 3) {c : Nat} (hc : c < 8) (hne : ∀ s, s < n → p s ≠ c) (v : Int32) :
    er_Rows (upd a_cols (r * 3 + n) (nI c)) (upd a_vals (r * 3 + n) v) (upd a_m (r * 8 + c) v) (upd a_has (r * 8 + c) 1) (upd a_cnt r (nI (n + 1))) := by
  intro q hq
  by_cases e : q = r
  · rw [e]
    refine ⟨n + 1, fun t => if t = n then c else p t, ?_⟩
    obtain ⟨h1, h2, h3, h4, h5, h6⟩ := h
    refine ⟨by omega, er_us, fun t ht => ?_, fun t h0 ht => ?_, fun d hd hdn => ?_, fun t t' ht ht' => ?_⟩
    · dsimp only
      by_cases e2 : t = n
      · rw [if_pos e2, e2, er_us, er_us, er_us, er_us]
        exact ⟨hc, rfl, rfl, by decide⟩
      · have hne' := hne t (by omega)
        obtain ⟨g1, g2, g3, g4⟩ := h3 t (by omega)
        rw [if_neg e2, er_un (by omega), er_un (by omega), er_un (by omega), er_un (by omega)]
        exact ⟨g1, g2, g3, g4⟩
    · rw [er_un (by omega)]
      exact h4 t (by omega) ht
    · have e3 : c ≠ d := by
        have := hdn n (by omega)
        dsimp only at this
        rw [if_pos rfl] at this
        exact this
      rw [er_un (by omega)]
      refine h5 d hd (fun s hs => ?_)
      have := hdn s (by omega)
      dsimp only at this
      rw [if_neg (by omega)] at this
      exact this
    · dsimp only
      by_cases e2 : t = n
      · by_cases e3 : t' = n
        · intro _; omega
        · rw [if_pos e2, if_neg e3]
          exact fun z => absurd z.symm (hne t' (by omega))
      · by_cases e3 : t' = n
        · rw [if_neg e2, if_pos e3]
          exact fun z => absurd z (hne t (by omega))
        · rw [if_neg e2, if_neg e3]
          exact fun z => h6 t t' (by omega) (by omega) z
  · obtain ⟨n', p', h'⟩ := H q hq
    refine ⟨n', p', er_else h' (fun t ht => er_un (by omega)) (fun t ht => er_un (by omega)) (fun c hc => er_un (by omega)) (fun c hc => er_un (by omega)) (er_un (by omega))⟩
end
section
/-! the walks: each loop and each method once, over a general post -/
theorem er_3 : nI 3 = 3 := by decide +kernel
theorem er_8 : nI 8 = 8 := by decide +kernel
theorem er_12 : nI 12 = 12 := by decide +kernel
theorem er_ix {b s : Nat} (h : b + s < 12) : vp_in (nI b + nI s) 12 := by
  rw [nI_add]; exact vp_in_nI h (by decide)
theorem er_cl {b s : Nat} (h : b + s < 12) : (nI b + nI s).toNatClampNeg = b + s := by
  rw [nI_add]; exact nI_clamp (by omega)
theorem er_m3 (r : Nat) : nI r * 3 = nI (r * 3) := by rw [← er_3, er_mul]
theorem er_yx (r c : Nat) : nI r * 8 + nI c = nI (r * 8 + c) := by rw [← er_8, er_mul, nI_add]
theorem er_lt3 {n : Nat} (h : n < 3) : nI n < 3 := by rw [← er_3]; exact nI_lt h (by decide)
theorem er_nlt3 : ¬ nI 3 < 3 := by rw [er_3]; decide
theorem er_ge3 {n : Nat} (h : n < 3) : ¬ (3 : Int32) ≤ nI n := by rw [← er_3]; exact nI_ge h (by decide)
theorem er_le3 : (3 : Int32) ≤ nI 3 := by rw [er_3]; decide
theorem er_ne (n : Nat) (h : n < 8) : ¬ nI n = -1 := by
  intro e
  have e1 := congrArg Int32.toInt e
  rw [nI_toInt (by omega)] at e1
  have e2 : (-1 : Int32).toInt = -1 := by decide
  rw [e2] at e1
  omega
theorem er_sm1 : vp_nar .short (-1) = -1 := by rw [vp_nar_short]; decide
theorem er_b1 : vp_nar .boolean 1 = 1 := rfl
theorem er_sh8 : ∀ c : Fin 8, ((nI c.val).toInt16.toInt32).toInt16.toInt32 = nI c.val := by decide +kernel
theorem er_sh (c : Nat) (h : c < 8) : vp_nar .short (nI c).toInt16.toInt32 = nI c := by
  rw [vp_nar_short]; exact er_sh8 ⟨c, h⟩
section
variable {a_cols a_vals a_x : Nat → Int32}
theorem er_fil {post : Int32 → Prop} {b n : Nat} (hb : b ≤ 9) (hn : n ≤ 3) (h1 : ∀ s, s < n → ¬ a_cols (b + s) = -1) (h2 : n < 3 → a_cols (b + n) = -1) (hp : post (nI n)) :
    ∀ d s : Nat, s + d = n → wX_filled_18 post (nI b) a_cols a_vals a_x (d + 1) (nI s) := by
  intro d
  induction d with
  | zero =>
    intro s hs
    have e : s = n := by omega
    rw [e]
    by_cases z : n < 3
    · exact br_f (er_ge3 z) ⟨er_ix (by omega), br_t (by rw [er_cl (by omega)]; exact h2 z) hp⟩
    · have e3 : n = 3 := by omega
      rw [e3] at hp ⊢
      exact br_t er_le3 hp
  | succ d ih =>
    intro s hs
    exact br_f (er_ge3 (by omega)) ⟨er_ix (by omega), br_f (by rw [er_cl (by omega)]; exact h1 s (by omega)) (nm_r (nI_1 s) (ih (s + 1) (by omega)))⟩
theorem er_33 {post : Int32 → SX → Prop} {x2 x3 : Int32} {b n : Nat} (hb : b ≤ 9) (hn : n ≤ 3) (h1 : ∀ s, s < n → ¬ a_cols (b + s) = -1) (h2 : n < 3 → a_cols (b + n) = -1)
    (hp : ∃ n62 : Nat, wX_put_62 post x2 x3 (nI b) (nI n) a_cols a_vals a_x n62 0) :
    ∀ d s : Nat, s + d = n → wX_put_33 post x2 x3 (nI b) a_cols a_vals a_x (d + 1) (nI s) := by
  intro d
  induction d with
  | zero =>
    intro s hs
    have e : s = n := by omega
    rw [e]
    by_cases z : n < 3
    · exact br_f (er_ge3 z) ⟨er_ix (by omega), br_t (by rw [er_cl (by omega)]; exact h2 z) hp⟩
    · have e3 : n = 3 := by omega
      rw [e3] at hp ⊢
      exact br_t er_le3 hp
  | succ d ih =>
    intro s hs
    exact br_f (er_ge3 (by omega)) ⟨er_ix (by omega), br_f (by rw [er_cl (by omega)]; exact h1 s (by omega)) (nm_r (nI_1 s) (ih (s + 1) (by omega)))⟩
theorem er_skip {post : Int32 → SX → Prop} {x2 x3 : Int32} {b n : Nat} (hb : b ≤ 9) (hn : n ≤ 3) (f : Nat) :
    ∀ d i : Nat, i + d ≤ n → (∀ t, t < i + d → ¬ a_cols (b + t) = x2) → wX_put_62 post x2 x3 (nI b) (nI n) a_cols a_vals a_x f (nI (i + d)) →
      wX_put_62 post x2 x3 (nI b) (nI n) a_cols a_vals a_x (f + d) (nI i) := by
  intro d
  induction d with
  | zero => intro i _ _ h; exact h
  | succ d ih =>
    intro i hi ht h
    have e : i + (d + 1) = (i + 1) + d := by omega
    rw [e] at h
    have K := ih (i + 1) (by omega) (fun t h' => ht t (by omega)) h
    show wX_put_62 post x2 x3 (nI b) (nI n) a_cols a_vals a_x ((f + d) + 1) (nI i)
    exact br_f (nI_ge (by omega) (by omega)) ⟨er_ix (by omega), br_f (by rw [er_cl (by omega)]; exact ht i (by omega)) (nm_r (nI_1 i) K)⟩
theorem er_hit {post : Int32 → SX → Prop} {x2 x3 : Int32} {b n s : Nat} (hb : b ≤ 9) (hn : n ≤ 3) (hs : s < n) (h : a_cols (b + s) = x2)
    (hp : post (nI n) (a_cols, upd a_vals (b + s) x3, a_x)) : wX_put_62 post x2 x3 (nI b) (nI n) a_cols a_vals a_x 1 (nI s) := by
  have e : (nI b + nI s).toNatClampNeg = b + s := er_cl (by omega)
  exact br_f (nI_ge hs (by omega)) ⟨er_ix (by omega), br_t (by rw [e]; exact h) ⟨er_ix (by omega), nm_r (e' := upd a_vals (b + s) x3) (by rw [e]) hp⟩⟩
theorem er_app {post : Int32 → SX → Prop} {x3 : Int32} {b n c : Nat} (hb : b ≤ 9) (hn : n < 3) (hc : c < 8)
    (hp : post (nI (n + 1)) (upd a_cols (b + n) (nI c), upd a_vals (b + n) x3, a_x)) : wX_put_62 post (nI c) x3 (nI b) (nI n) a_cols a_vals a_x 1 (nI n) := by
  have e : (nI b + nI n).toNatClampNeg = b + n := er_cl (by omega)
  rw [← nI_1] at hp
  exact br_t (nI_le (Nat.le_refl n) (by omega)) (br_t (er_lt3 hn) ⟨er_ix (by omega), nm_r (e' := upd a_cols (b + n) (nI c)) (by rw [e, er_sh c hc])
    ⟨er_ix (by omega), nm_r (e' := upd a_vals (b + n) x3) (by rw [e]) hp⟩⟩)
theorem er_full {post : Int32 → SX → Prop} {x2 x3 : Int32} {b : Nat}
    (hp : post (-1) (a_cols, a_vals, a_x)) : wX_put_62 post x2 x3 (nI b) (nI 3) a_cols a_vals a_x 1 (nI 3) :=
  br_t (nI_le (Nat.le_refl 3) (by decide)) (br_f er_nlt3 hp)
/-- the component's row product: the sum in the order of storing -/
theorem er_xmul {post : Int64 → Prop} {b n : Nat} {p : Nat → Nat} (hb : b ≤ 9) (hn : n ≤ 3) (h1 : ∀ s, s < n → p s < 8 ∧ a_cols (b + s) = nI (p s)) (h2 : n < 3 → a_cols (b + n) = -1)
    (hp : post (er_S (fun s => (a_vals (b + s)).toInt64 * (a_x (p s)).toInt64) n)) :
    ∀ d s : Nat, s + d = n → wX_mulRow_20 post (nI b) a_cols a_vals a_x (d + 1) (er_S (fun s => (a_vals (b + s)).toInt64 * (a_x (p s)).toInt64) s) (nI s) := by
  intro d
  induction d with
  | zero =>
    intro s hs
    have e : s = n := by omega
    rw [e]
    by_cases z : n < 3
    · exact br_f (er_ge3 z) ⟨er_ix (by omega), nm_r (e' := -1) (by rw [er_cl (by omega)]; exact h2 z) (br_t rfl hp)⟩
    · have e3 : n = 3 := by omega
      rw [e3] at hp ⊢
      exact br_t er_le3 hp
  | succ d ih =>
    intro s hs
    obtain ⟨g1, g2⟩ := h1 s (by omega)
    have e : (nI b + nI s).toNatClampNeg = b + s := er_cl (by omega)
    have e2 : (nI (p s)).toNatClampNeg = p s := nI_clamp (by omega)
    exact br_f (er_ge3 (by omega)) ⟨er_ix (by omega), nm_r (e' := nI (p s)) (by rw [e]; exact g2)
      (br_f (er_ne _ g1) ⟨er_ix (by omega), vp_in_nI g1 (by decide),
        nm_r (e' := er_S (fun s => (a_vals (b + s)).toInt64 * (a_x (p s)).toInt64) (s + 1)) (by rw [e, e2]; rfl) (nm_r (nI_1 s) (ih (s + 1) (by omega)))⟩)⟩
end
section
variable {a_m a_has a_cnt a_x : Nat → Int32}
/-- the reference's summand at column c -/
def er_T (a_m a_has a_x : Nat → Int32) (r c : Nat) : Int64 := if a_has (r * 8 + c) = 0 then 0 else (a_m (r * 8 + c)).toInt64 * (a_x c).toInt64
theorem er_ymul {post : Int64 → Prop} {r : Nat} (hr : r < 4) (hp : post (er_S (er_T a_m a_has a_x r) 8)) :
    ∀ d c : Nat, c + d = 8 → wY_mulRow_16 post (nI r) a_m a_has a_cnt a_x (d + 1) (er_S (er_T a_m a_has a_x r) c) (nI c) := by
  intro d
  induction d with
  | zero =>
    intro c hc
    have e : c = 8 := by omega
    rw [e]
    exact br_t (by rw [er_8]; decide) hp
  | succ d ih =>
    intro c hc
    have h8 : ¬ (8 : Int32) ≤ nI c := by rw [← er_8]; exact nI_ge (by omega) (by decide)
    have hi : vp_in (nI r * 8 + nI c) 32 := by rw [er_yx]; exact vp_in_nI (by omega) (by decide)
    have e : (nI r * 8 + nI c).toNatClampNeg = r * 8 + c := by rw [er_yx]; exact nI_clamp (by omega)
    have e2 : (nI c).toNatClampNeg = c := nI_clamp (by omega)
    have K := ih (c + 1) (by omega)
    by_cases z : a_has (r * 8 + c) = 0
    · have es : er_S (er_T a_m a_has a_x r) (c + 1) = er_S (er_T a_m a_has a_x r) c := by
        show er_S (er_T a_m a_has a_x r) c + er_T a_m a_has a_x r c = _
        rw [er_T, if_pos z, Int64.add_zero]
      rw [es] at K
      exact br_f h8 ⟨hi, br_t (by rw [e]; exact z) (nm_r (nI_1 c) K)⟩
    · have es : er_S (er_T a_m a_has a_x r) (c + 1) = er_S (er_T a_m a_has a_x r) c + (a_m (r * 8 + c)).toInt64 * (a_x c).toInt64 := by
        show er_S (er_T a_m a_has a_x r) c + er_T a_m a_has a_x r c = _
        rw [er_T, if_neg z]
      exact br_f h8 ⟨hi, br_f (by rw [e]; exact z) ⟨hi, vp_in_nI (by omega) (by decide), nm_r (e' := er_S (er_T a_m a_has a_x r) (c + 1)) (by rw [e, e2, es]) (nm_r (nI_1 c) K)⟩⟩
theorem er_le7 {c : Nat} (hc : c < 8) : nI c ≤ 7 := nI_le (b := 7) (by omega) (by decide)
theorem er_rle3 {r : Nat} (hr : r < 4) : nI r ≤ 3 := nI_le (b := 3) (by omega) (by decide)
theorem er_73 {post : Int32 → SY → Prop} {r c : Nat} {v : Int32} (hr : r < 4) (hc : c < 8)
    (hp : post (a_cnt r) (upd a_m (r * 8 + c) v, a_has, a_cnt, a_x)) : wY_put_73 post (nI r) v (nI (r * 8 + c)) a_m a_has a_cnt a_x := by
  have e : (nI (r * 8 + c)).toNatClampNeg = r * 8 + c := nI_clamp (by omega)
  have e2 : (nI r).toNatClampNeg = r := nI_clamp (by omega)
  unfold wY_put_73
  rw [e2]
  exact ⟨vp_in_nI (by omega) (by decide), nm_r (e' := upd a_m (r * 8 + c) v) (by rw [e]) ⟨vp_in_nI (by omega) (by decide), hp⟩⟩
theorem er_yhit {post : Int32 → SY → Prop} {r c : Nat} {v : Int32} (hr : r < 4) (hc : c < 8) (hh : ¬ a_has (r * 8 + c) = 0)
    (hp : post (a_cnt r) (upd a_m (r * 8 + c) v, a_has, a_cnt, a_x)) : wpY_put post (a_m, a_has, a_cnt, a_x) (nI r) (nI c) v := by
  have e : (nI (r * 8 + c)).toNatClampNeg = r * 8 + c := nI_clamp (by omega)
  exact br_f (nI_pos (by omega)) (br_t (er_rle3 hr) (br_f (nI_pos (by omega)) (br_t (er_le7 hc) (nm_r (er_yx r c)
    ⟨vp_in_nI (by omega) (by decide), br_f (by rw [e]; exact hh) (er_73 hr hc hp)⟩))))
theorem er_yfull {post : Int32 → SY → Prop} {r c : Nat} {v : Int32} (hr : r < 4) (hc : c < 8) (hh : a_has (r * 8 + c) = 0) (hn : a_cnt r = nI 3)
    (hp : post (-1) (a_m, a_has, a_cnt, a_x)) : wpY_put post (a_m, a_has, a_cnt, a_x) (nI r) (nI c) v := by
  have e : (nI (r * 8 + c)).toNatClampNeg = r * 8 + c := nI_clamp (by omega)
  have e2 : (nI r).toNatClampNeg = r := nI_clamp (by omega)
  exact br_f (nI_pos (by omega)) (br_t (er_rle3 hr) (br_f (nI_pos (by omega)) (br_t (er_le7 hc) (nm_r (er_yx r c)
    ⟨vp_in_nI (by omega) (by decide), br_t (by rw [e]; exact hh) ⟨vp_in_nI (by omega) (by decide), br_t (by rw [e2, hn, er_3]) hp⟩⟩))))
theorem er_ynew {post : Int32 → SY → Prop} {r c n : Nat} {v : Int32} (hr : r < 4) (hc : c < 8) (hh : a_has (r * 8 + c) = 0) (hn : a_cnt r = nI n) (h3 : n < 3)
    (hp : post (nI (n + 1)) (upd a_m (r * 8 + c) v, upd a_has (r * 8 + c) 1, upd a_cnt r (nI (n + 1)), a_x)) : wpY_put post (a_m, a_has, a_cnt, a_x) (nI r) (nI c) v := by
  have e : (nI (r * 8 + c)).toNatClampNeg = r * 8 + c := nI_clamp (by omega)
  have e2 : (nI r).toNatClampNeg = r := nI_clamp (by omega)
  have hr4 : vp_in (nI r) 4 := vp_in_nI (by omega) (by decide)
  have hi : vp_in (nI (r * 8 + c)) 32 := vp_in_nI (by omega) (by decide)
  have n3 : ¬ a_cnt r = 3 := by
    rw [hn, ← er_3, nI_eq (by omega) (by decide)]; omega
  exact br_f (nI_pos (by omega)) (br_t (er_rle3 hr) (br_f (nI_pos (by omega)) (br_t (er_le7 hc) (nm_r (er_yx r c)
    ⟨hi, br_t (by rw [e]; exact hh) ⟨hr4, br_f (by rw [e2]; exact n3)
      ⟨hi, nm_r (e' := upd a_has (r * 8 + c) 1) (by rw [e, er_b1]) ⟨hr4, hr4, nm_r (e' := upd a_cnt r (nI (n + 1))) (by rw [e2, hn, nI_1]) (er_73 hr hc (by rw [er_us]; exact hp))⟩⟩⟩⟩))))
end
end
section
/-! what is owed -/
/-- the x of both is the same; each of the four rows has n entries, entry s in column p s; the reference has just those columns, with the same values -/
def i_Rel (_ : Nat) (u : SX) (v : SY) : Prop :=
  ∃ a_cols a_vals a_m a_has a_cnt a_x : Nat → Int32, u = (a_cols, a_vals, a_x) ∧ v = (a_m, a_has, a_cnt, a_x) ∧ er_Rows a_cols a_vals a_m a_has a_cnt
theorem i_up {k : Nat} {u : SX} {v : SY} (h : i_Rel k u v) : i_Rel (k + 4) u v := h
theorem er_mk {k : Nat} {a_cols a_vals a_m a_has a_cnt a_x : Nat → Int32} (H : er_Rows a_cols a_vals a_m a_has a_cnt) :
    i_Rel k (a_cols, a_vals, a_x) (a_m, a_has, a_cnt, a_x) := ⟨_, _, _, _, _, _, rfl, rfl, H⟩
theorem er_init {post : SX → Prop} {b c : Nat → Int32} (hp : ∀ a : Nat → Int32, (∀ j, j < 12 → a j = -1) → post (a, b, c)) :
    ∀ (d i : Nat) (a : Nat → Int32), i + d = 12 → (∀ j, j < i → a j = -1) → wX_init_30 post (d + 1) (nI i) a b c := by
  intro d
  induction d with
  | zero =>
    intro i a hi ha
    have e : i = 12 := by omega
    rw [e] at ha ⊢
    exact br_t (by rw [er_12]; decide) (hp a ha)
  | succ d ih =>
    intro i a hi ha
    have h : ¬ (12 : Int32) ≤ nI i := by rw [← er_12]; exact nI_ge (by omega) (by decide)
    have e : (nI i).toNatClampNeg = i := nI_clamp (by omega)
    refine br_f h ⟨vp_in_nI (by omega) (by decide), nm_r (e' := upd a i (-1)) (by rw [e, er_sm1]) (nm_r (nI_1 i) (ih (i + 1) _ (by omega) (fun j hj => ?_)))⟩
    by_cases z : j = i
    · rw [z]; exact er_us
    · rw [er_un z]; exact ha j (by omega)
theorem i_vc0 : wpX_init (fun u => wpY_init (fun v => i_Rel 0 u v)) := by
  refine ⟨13, er_init (fun a ha => ?_) 12 0 (fun _ => 0) rfl (fun j hj => by omega)⟩
  exact er_mk (k := 0) (fun r hr => ⟨0, fun _ => 0, by omega, rfl, fun s hs => by omega, fun s _ hs => ha _ (by omega), fun c _ _ => rfl, fun s t hs => by omega⟩)
theorem er_noent {a_cols a_vals a_m a_has a_cnt : Nat → Int32} {r n : Nat} {p : Nat → Nat} (R : er_Row a_cols a_vals a_m a_has a_cnt r n p) :
    (∀ s, s < n → ¬ a_cols (r * 3 + s) = -1) ∧ (n < 3 → a_cols (r * 3 + n) = -1) := by
  refine ⟨fun s hs => ?_, fun h => R.2.2.2.1 n (Nat.le_refl n) h⟩
  obtain ⟨g1, g2, _⟩ := R.2.2.1 s hs
  rw [g2]; exact er_ne _ g1
theorem i_vc_put {k : Nat} {u : SX} {v : SY} (I : i_Rel k u v) (hk : k + 4 ≤ 2048) (v1 : Int32) (v2 : Int32) (v3 : Int32) : wpX_put (fun r u' => wpY_put (fun r' v' => r' = r ∧ i_Rel (k + 4) u' v') v v1 v2 v3) u v1 v2 v3 := by
  obtain ⟨a_cols, a_vals, a_m, a_has, a_cnt, a_x, rfl, rfl, H⟩ := I
  by_cases h0 : v1 < 0
  · exact br_t h0 (br_t h0 ⟨rfl, er_mk H⟩)
  by_cases h3 : v1 ≤ 3
  rotate_left
  · exact br_f h0 (br_f h3 (br_f h0 (br_f h3 ⟨rfl, er_mk H⟩)))
  by_cases c0 : v2 < 0
  · exact br_f h0 (br_t h3 (br_t c0 (br_f h0 (br_t h3 (br_t c0 ⟨rfl, er_mk H⟩)))))
  by_cases c7 : v2 ≤ 7
  rotate_left
  · exact br_f h0 (br_t h3 (br_f c0 (br_f c7 (br_f h0 (br_t h3 (br_f c0 (br_f c7 ⟨rfl, er_mk H⟩)))))))
  obtain ⟨r, hr, rfl⟩ := nI_of2 (M := 3) (n := 3) (by decide) h0 h3
  obtain ⟨c, hc, rfl⟩ := nI_of2 (M := 7) (n := 7) (by decide) c0 c7
  obtain ⟨n, p, R⟩ := H r (by omega)
  have hn : n ≤ 3 := R.1
  have E := er_noent R
  refine br_f h0 (br_t h3 (br_f c0 (br_t c7 (nm_r (er_m3 r) ⟨n + 1, er_33 (by omega) hn E.1 E.2 ?_ n 0 (by omega)⟩))))
  by_cases f : ∃ s, s < n ∧ p s = c
  · obtain ⟨s, hs, rfl⟩ := f
    obtain ⟨g1, g2, g3, g4⟩ := R.2.2.1 s hs
    refine ⟨1 + s, er_skip (by omega) hn 1 s 0 (by omega) (fun t ht => ?_) ?_⟩
    · obtain ⟨q1, q2, _⟩ := R.2.2.1 t (by omega)
      rw [q2, nI_eq (by omega) (by omega)]
      intro z
      have := R.2.2.2.2.2 t s (by omega) hs z
      omega
    · rw [Nat.zero_add]
      refine er_hit (by omega) hn hs g2 ?_
      exact er_yhit (by omega) g1 g4 ⟨R.2.1, er_mk (er_set H (by omega) R hs v3)⟩
  · have hne : ∀ s, s < n → p s ≠ c := fun s hs z => f ⟨s, hs, z⟩
    have hz : a_has (r * 8 + c) = 0 := R.2.2.2.2.1 c (by omega) hne
    refine ⟨1 + n, er_skip (by omega) hn 1 n 0 (by omega) (fun t ht => ?_) ?_⟩
    · obtain ⟨q1, q2, _⟩ := R.2.2.1 t (by omega)
      rw [q2, nI_eq (by omega) (by omega)]
      exact hne t (by omega)
    · rw [Nat.zero_add]
      by_cases z : n < 3
      · refine er_app (by omega) z (by omega) ?_
        exact er_ynew (by omega) (by omega) hz R.2.1 z ⟨rfl, er_mk (er_new H (by omega) R z (by omega) hne v3)⟩
      · have e3 : n = 3 := by omega
        have hcnt := R.2.1
        rw [e3] at hcnt ⊢
        refine er_full ?_
        exact er_yfull (by omega) (by omega) hz hcnt ⟨rfl, er_mk H⟩
theorem er_mulEq {a_cols a_vals a_m a_has a_cnt a_x : Nat → Int32} {r n : Nat} {p : Nat → Nat} (R : er_Row a_cols a_vals a_m a_has a_cnt r n p) :
    er_S (fun s => (a_vals (r * 3 + s)).toInt64 * (a_x (p s)).toInt64) n = er_S (er_T a_m a_has a_x r) 8 := by
  obtain ⟨h1, h2, h3, h4, h5, h6⟩ := R
  rw [← er_Ss n (er_T a_m a_has a_x r) (fun s hs => (h3 s hs).1) h6 (fun c hc hs => by rw [er_T, if_pos (h5 c hc hs)])]
  refine er_Sc n (fun s hs => ?_)
  obtain ⟨g1, g2, g3, g4⟩ := h3 s hs
  rw [er_T, if_neg g4, g3]
theorem i_vc_mulRow {k : Nat} {u : SX} {v : SY} (I : i_Rel k u v) (hk : k + 4 ≤ 2048) (v1 : Int32) : wpX_mulRow (fun r => wpY_mulRow (fun r' => r' = r ∧ i_Rel (k + 4) u v) v v1) u v1 := by
  obtain ⟨a_cols, a_vals, a_m, a_has, a_cnt, a_x, rfl, rfl, H⟩ := I
  by_cases h0 : v1 < 0
  · exact br_t h0 (br_t h0 ⟨rfl, er_mk H⟩)
  by_cases h3 : v1 ≤ 3
  rotate_left
  · exact br_f h0 (br_f h3 (br_f h0 (br_f h3 ⟨rfl, er_mk H⟩)))
  obtain ⟨r, hr, rfl⟩ := nI_of2 (M := 3) (n := 3) (by decide) h0 h3
  obtain ⟨n, p, R⟩ := H r (by omega)
  refine br_f h0 (br_t h3 (nm_r (er_m3 r) ⟨n + 1, er_xmul (p := p) (by omega) R.1 (fun s hs => ⟨(R.2.2.1 s hs).1, (R.2.2.1 s hs).2.1⟩) (er_noent R).2 ?_ n 0 (by omega)⟩))
  refine br_f h0 (br_t h3 ⟨9, er_ymul (by omega) ?_ 8 0 rfl⟩)
  exact ⟨(er_mulEq R).symm, er_mk H⟩
theorem i_vc_setX {k : Nat} {u : SX} {v : SY} (I : i_Rel k u v) (hk : k + 4 ≤ 2048) (v1 : Int32) (v2 : Int32) : wpX_setX (fun r u' => wpY_setX (fun r' v' => r' = r ∧ i_Rel (k + 4) u' v') v v1 v2) u v1 v2 := by
  obtain ⟨a_cols, a_vals, a_m, a_has, a_cnt, a_x, rfl, rfl, H⟩ := I
  by_cases h0 : v1 < 0
  · exact br_t h0 (br_t h0 ⟨rfl, er_mk H⟩)
  by_cases h7 : v1 ≤ 7
  rotate_left
  · exact br_f h0 (br_f h7 (br_f h0 (br_f h7 ⟨rfl, er_mk H⟩)))
  have hi : vp_in v1 8 := by
    obtain ⟨c, hc, rfl⟩ := nI_of2 (M := 7) (n := 7) (by decide) h0 h7
    exact vp_in_nI (by omega) (by decide)
  exact br_f h0 (br_t h7 ⟨hi, nm_e (br_f h0 (br_t h7 ⟨hi, nm_e ⟨rfl, er_mk H⟩⟩))⟩)
theorem i_vc_filled {k : Nat} {u : SX} {v : SY} (I : i_Rel k u v) (hk : k + 4 ≤ 2048) (v1 : Int32) : wpX_filled (fun r => wpY_filled (fun r' => r' = r ∧ i_Rel (k + 4) u v) v v1) u v1 := by
  obtain ⟨a_cols, a_vals, a_m, a_has, a_cnt, a_x, rfl, rfl, H⟩ := I
  by_cases h0 : v1 < 0
  · exact br_t h0 (br_t h0 ⟨rfl, er_mk H⟩)
  by_cases h3 : v1 ≤ 3
  rotate_left
  · exact br_f h0 (br_f h3 (br_f h0 (br_f h3 ⟨rfl, er_mk H⟩)))
  obtain ⟨r, hr, rfl⟩ := nI_of2 (M := 3) (n := 3) (by decide) h0 h3
  obtain ⟨n, p, R⟩ := H r (by omega)
  have e2 : (nI r).toNatClampNeg = r := nI_clamp (by omega)
  refine br_f h0 (br_t h3 (nm_r (er_m3 r) ⟨n + 1, er_fil (by omega) R.1 (er_noent R).1 (er_noent R).2 ?_ n 0 (by omega)⟩))
  exact br_f h0 (br_t h3 ⟨vp_in_nI (by omega) (by decide), by rw [e2]; exact R.2.1, er_mk H⟩)
end
