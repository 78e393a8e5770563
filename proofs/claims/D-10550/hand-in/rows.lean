section
/-- the word of all worlds over m variables, as the constructor makes it -/
def bb_al (m : Nat) : Int64 := if m = 6 then -1 else ((1 : Int64) <<< ((nI (2 ^ m)).toInt64 &&& 63)) - 1
/-- the table zeroAt -/
def bb_z : Nat → Int64 := vp_updL (vp_updL (vp_updL (vp_updL (vp_updL (vp_updL (fun _ => 0) 0 6148914691236517205) 1 3689348814741910323) 2 1085102592571150095) 3 71777214294589695) 4 281470681808895) 5 4294967295
/-- the three beliefs -/
def bb_B (al : Int64) : Nat → Int64 := vp_updL (vp_updL (vp_updL (fun _ => 0) 0 al) 1 al) 2 al
/-- the word that atom(v) pushes -/
def bb_at (m v : Nat) : Int64 := bb_al m &&& (bb_z v ^^^ (-1))
/-- what has(s, w) answers -/
def bb_has (s : Int64) (w : Int32) : Int32 := if (((s.toUInt64 >>> (w.toInt64.toUInt64 &&& Int64.toUInt64 63)).toInt64) &&& 1) = 1 then 1 else 0
/-- what ones(s) answers, by its three steps -/
def bb_o1 (s : Int64) : Int64 := s - (((s.toUInt64 >>> ((1 : Int32).toInt64.toUInt64 &&& Int64.toUInt64 63)).toInt64) &&& 6148914691236517205)
def bb_o2 (x : Int64) : Int64 := (x &&& 3689348814741910323) + (((x.toUInt64 >>> ((2 : Int32).toInt64.toUInt64 &&& Int64.toUInt64 63)).toInt64) &&& 3689348814741910323)
def bb_o3 (x : Int64) : Int64 := (x + ((x.toUInt64 >>> ((4 : Int32).toInt64.toUInt64 &&& Int64.toUInt64 63)).toInt64)) &&& 1085102592571150095
def bb_on (s : Int64) : Int32 := ((((bb_o3 (bb_o2 (bb_o1 s)) * 72340172838076673).toUInt64 >>> ((56 : Int32).toInt64.toUInt64 &&& Int64.toUInt64 63)).toInt64).toInt32)
theorem bb_wl : ∀ m, m < 7 → (1 : Int32) <<< (nI m &&& 31) = nI (2 ^ m) := by decide +kernel
theorem bb_pw {m : Nat} (h : m ≤ 6) : 2 ^ m ≤ 64 := Nat.le_trans (Nat.pow_le_pow_right (by decide) h) (by decide)
theorem bb_ones : ∀ m, m < 7 → 2 ≤ m → bb_on (bb_al m) = nI (2 ^ m) := by decide +kernel
theorem bb_hasA : ∀ m, m < 7 → 2 ≤ m → ∀ k, k < 2 ^ m → bb_has (bb_al m) (nI k) = 1 := by decide +kernel
theorem bb_hasP : ∀ m, m < 7 → 2 ≤ m → ∀ v, v < m → ∀ k, k < 2 ^ m → bb_has (bb_at m v) (nI k) = (nI k >>> (nI v &&& 31)) &&& 1 := by decide +kernel
theorem bb_hasN : ∀ m, m < 7 → 2 ≤ m → ∀ v, v < m → ∀ k, k < 2 ^ m → bb_has (bb_al m &&& (bb_at m v ^^^ (-1))) (nI k) = 1 - ((nI k >>> (nI v &&& 31)) &&& 1) := by decide +kernel
theorem bb_Bj (al : Int64) : ∀ j, j < 3 → bb_B al j = al
  | 0, _ => rfl
  | 1, _ => rfl
  | 2, _ => rfl
  | _ + 3, h => absurd h (by omega)
theorem bb_gt2 {x : Int32} (h : nI 3 ≤ x) : 2 < x := by
  rw [Int32.le_iff_toInt_le] at h
  rw [Int32.lt_iff_toInt_lt]
  have e3 : (nI 3).toInt = 3 := by decide
  have e2 : (2 : Int32).toInt = 2 := by decide
  omega
theorem bb_gt4 {x : Int32} (h : nI 5 ≤ x) : ¬ x ≤ 4 := by
  rw [Int32.le_iff_toInt_le] at h
  rw [Int32.le_iff_toInt_le]
  have e3 : (nI 5).toInt = 5 := by decide
  have e2 : (4 : Int32).toInt = 4 := by decide
  omega
/-- the number of variables: clamped into 2 .. 6 -/
theorem bb_cl (p : Int32) : ∃ m : Nat, 2 ≤ m ∧ m ≤ 6 ∧ ((¬ 2 ≤ p ∧ m = 2) ∨ (2 ≤ p ∧ ¬ p ≤ 6 ∧ m = 6) ∨ (2 ≤ p ∧ p ≤ 6 ∧ p = nI m)) := by
  by_cases h2 : 2 ≤ p
  · by_cases h6 : p ≤ 6
    · have e2 : (2 : Int32).toInt = 2 := by decide
      have e0 : (0 : Int32).toInt = 0 := by decide
      have h0 : ¬ p < 0 := by
        rw [Int32.lt_iff_toInt_lt, e0]
        rw [Int32.le_iff_toInt_le, e2] at h2
        omega
      obtain ⟨j, hj, rfl⟩ := nI_of2 (n := 6) (by decide) h0 h6
      have h2' : nI 2 ≤ nI j := h2
      rw [nI_leI (by omega) (by omega)] at h2'
      exact ⟨j, h2', hj, Or.inr (Or.inr ⟨h2, h6, rfl⟩)⟩
    · exact ⟨6, by omega, by omega, Or.inr (Or.inl ⟨h2, h6, rfl⟩)⟩
  · exact ⟨2, by omega, by omega, Or.inl ⟨h2, rfl⟩⟩
/-- both programs clamp by the same two branches -/
theorem bb_cb {A : Int32 → Prop} {p : Int32} {m : Nat} (h : (¬ 2 ≤ p ∧ m = 2) ∨ (2 ≤ p ∧ ¬ p ≤ 6 ∧ m = 6) ∨ (2 ≤ p ∧ p ≤ 6 ∧ p = nI m)) (H : A (nI m)) :
    (2 ≤ p → ((p ≤ 6 → A p) ∧ (¬ p ≤ 6 → A 6))) ∧ (¬ 2 ≤ p → (((2 : Int32) ≤ 6 → A 2) ∧ (¬ (2 : Int32) ≤ 6 → A 6))) := by
  rcases h with ⟨h2, rfl⟩ | ⟨h2, h6, rfl⟩ | ⟨h2, h6, rfl⟩
  · exact br_f h2 (br_t (by decide) H)
  · exact br_t h2 (br_f h6 H)
  · exact br_t h2 (br_t h6 H)
theorem bb_nb {b : Nat} (hb : b < 3) : ¬ (2 : Int32) < nI b := nI_nlt (a := 2) (by omega) (by omega)
end
section
theorem bb_165 {post : St2 → Prop} {mc ms kc ks : Nat} {n d w : Int32} {al : Int64} {b c e f : Nat → Int64} (H : post (n, d, w, al, bb_B al, b, c, e, f)) :
    ∃ fu, wX_init_165 post mc ms kc ks n d w al fu 0 (fun _ => 0) b c e f := by
  refine ⟨4, ?_⟩
  unfold wX_init_165
  refine br_f (by decide) ⟨pk_in 0 3 (by omega), nm_r (e' := vp_updL (fun _ => 0) 0 al) (by rw [pk_cl 0]) (nm_r (e' := nI 1) (by decide) ?_)⟩
  unfold wX_init_165
  refine br_f (by decide) ⟨pk_in 1 3 (by omega), nm_r (e' := vp_updL (vp_updL (fun _ => 0) 0 al) 1 al) (by rw [pk_cl 1]) (nm_r (e' := nI 2) (by decide) ?_)⟩
  unfold wX_init_165
  refine br_f (by decide) ⟨pk_in 2 3 (by omega), nm_r (e' := bb_B al) (by rw [pk_cl 2]; rfl) (nm_r (e' := nI 3) (by decide) ?_)⟩
  unfold wX_init_165
  exact br_t (by decide) H
theorem bb_106 {post : St2 → Prop} {mc ms kc ks : Nat} {n d w : Int32} {al z : Int64} {b e f : Nat → Int64} (H : post (n, d, w, z, bb_B z, b, bb_z, e, f)) :
    wX_init_106 post mc ms z kc ks n d w al (fun _ => 0) b (fun _ => 0) e f :=
  nm_e (nm_e (nm_e (nm_e (nm_e (nm_e (bb_165 H))))))
/-- the state that the constructor leaves -/
def bb_S (m : Nat) : St2 := (nI m, 0, nI (2 ^ m), bb_al m, bb_B (bb_al m), fun _ => 0, bb_z, fun _ => 0, fun _ => 0)
theorem bb_72 {post : St2 → Prop} {mc ms : Nat} {m : Nat} (h6 : m ≤ 6) (H : post (bb_S m)) :
    wX_init_72 post mc ms 5 33 (nI m) 0 0 0 (fun _ => 0) (fun _ => 0) (fun _ => 0) (fun _ => 0) (fun _ => 0) := by
  unfold wX_init_72
  refine nm_r (bb_wl m (by omega)) (pk_eq m 6 (fun z => bb_106 ?_) (fun z => bb_106 ?_))
  · have e : bb_al m = -1 := if_pos z
    rw [← e]
    exact H
  · have e : bb_al m = ((1 : Int64) <<< ((nI (2 ^ m)).toInt64 &&& 63)) - 1 := if_neg z
    rw [← e]
    exact H
theorem bb_init {post : St2 → Prop} {mc ms : Nat} (hc : 5 ≤ mc) (hs : 33 ≤ ms) {p : Int32} {m : Nat} (h6 : m ≤ 6) (hm : (¬ 2 ≤ p ∧ m = 2) ∨ (2 ≤ p ∧ ¬ p ≤ 6 ∧ m = 6) ∨ (2 ≤ p ∧ p ≤ 6 ∧ p = nI m)) (H : post (bb_S m)) :
    wpX_init post mc ms (0, 0, 0, 0) p :=
  ⟨by omega, by omega, by omega, by omega, by omega, by omega, by omega, by omega, by omega, by omega, bb_cb (A := fun z => wX_init_72 post mc ms 5 33 z 0 0 0 (fun _ => 0) (fun _ => 0) (fun _ => 0) (fun _ => 0) (fun _ => 0)) hm (bb_72 h6 H)⟩
section
variable {n d w : Int32} {al : Int64} {a1 a2 a3 a4 a5 : Nat → Int64}
theorem bb_var0 {post : Int32 → Prop} {v : Int32} (h : v < 0 ∨ n ≤ v) (H : post 0) : wpX_isVar post (n, d, w, al, a1, a2, a3, a4, a5) v :=
  br_c (fun _ => H) (fun z => br_t (h.resolve_left z) H)
theorem bb_var1 {post : Int32 → Prop} {v : Int32} (h0 : ¬ v < 0) (h1 : ¬ n ≤ v) (H : post 1) : wpX_isVar post (n, d, w, al, a1, a2, a3, a4, a5) v :=
  br_f h0 (br_f h1 H)
theorem bb_wor0 {post : Int32 → Prop} {v : Int32} (h : v < 0 ∨ w ≤ v) (H : post 0) : wpX_isWorld post (n, d, w, al, a1, a2, a3, a4, a5) v :=
  br_c (fun _ => H) (fun z => br_t (h.resolve_left z) H)
theorem bb_wor1 {post : Int32 → Prop} {v : Int32} (h0 : ¬ v < 0) (h1 : ¬ w ≤ v) (H : post 1) : wpX_isWorld post (n, d, w, al, a1, a2, a3, a4, a5) v :=
  br_f h0 (br_f h1 H)
theorem bb_bel0 {post : Int32 → Prop} {b : Int32} (h : b < 0 ∨ 2 < b) (H : post 0) : wpX_isBelief post () b :=
  br_c (fun _ => H) (fun z => br_t (h.resolve_left z) H)
theorem bb_bel1 {post : Int32 → Prop} {b : Int32} (h0 : ¬ b < 0) (h1 : ¬ 2 < b) (H : post 1) : wpX_isBelief post () b :=
  br_f h0 (br_f h1 H)
theorem bb_hasW {post : Int32 → Prop} {s : Int64} {x : Int32} (H : post (bb_has s x)) : wpX_has post () s x := by
  unfold wpX_has
  unfold bb_has at H
  refine br_c (fun z => ?_) (fun z => ?_)
  · rw [if_pos z] at H
    exact H
  · rw [if_neg z] at H
    exact H
/-- has, then '? 1 : 0' -/
theorem bb_hasT {post : Int32 → Prop} {s : Int64} {x : Int32} (H : post (bb_has s x)) : wpX_has (fun r => ((r = 0 → post 0) ∧ (¬ r = 0 → post 1))) () s x := by
  unfold wpX_has
  unfold bb_has at H
  refine br_c (fun z => ?_) (fun z => ?_)
  · rw [if_pos z] at H
    exact br_f (by decide) H
  · rw [if_neg z] at H
    exact br_t rfl H
theorem bb_onesW {post : Int32 → Prop} {s : Int64} (H : post (bb_on s)) : wpX_ones post () s :=
  nm_e (nm_e (nm_e H))
theorem bb_atom0 {post : Int32 → St2 → Prop} {v : Int32} (h : v < 0 ∨ n ≤ v) (H : post (-1) (n, d, w, al, a1, a2, a3, a4, a5)) : wpX_atom post (n, d, w, al, a1, a2, a3, a4, a5) v := by
  unfold wpX_atom
  dsimp only
  exact bb_var0 h (br_t rfl H)
theorem bb_atom1 {post : Int32 → St2 → Prop} {m v : Nat} (hv : v < m) (hm : m ≤ 6) (H : post 1 (nI m, 1, w, al, a1, vp_updL a2 0 (al &&& (a3 v ^^^ (-1))), a3, a4, a5)) : wpX_atom post (nI m, 0, w, al, a1, a2, a3, a4, a5) (nI v) := by
  unfold wpX_atom
  dsimp only
  refine bb_var1 (nI_pos (by omega)) (nI_ge hv (by omega)) (br_f (by decide) (br_f (by decide) ⟨pk_in v 6 (by omega), pk_in 0 8 (by omega), nm_r (e' := vp_updL a2 0 (al &&& (a3 v ^^^ (-1)))) ?_ (nm_r (e' := 1) (by decide) H)⟩))
  rw [nI_clamp (show v < 2 ^ 31 by omega), pk_cl 0]
theorem bb_cout {post : Int32 → St2 → Prop} {k : Int32} (h : k < 0 ∨ ¬ k ≤ 4) (H : post (-1) (n, d, w, al, a1, a2, a3, a4, a5)) : wpX_connect post (n, d, w, al, a1, a2, a3, a4, a5) k :=
  br_c (fun _ => H) (fun z => br_f (h.resolve_left z) H)
theorem bb_clow {post : Int32 → St2 → Prop} {k : Int32} (h0 : ¬ k < 0) (h4 : k ≤ 4) (hd : (k = 0 → ¬ 1 ≤ d) ∧ (¬ k = 0 → ¬ 2 ≤ d)) (H : post (-2) (n, d, w, al, a1, a2, a3, a4, a5)) : wpX_connect post (n, d, w, al, a1, a2, a3, a4, a5) k :=
  br_f h0 (br_t h4 (br_c (fun z => br_f (hd.1 z) H) (fun z => br_f (hd.2 z) H)))
theorem bb_cnot {post : Int32 → St2 → Prop} (H : post 1 (n, 1, w, al, a1, vp_updL a2 0 (al &&& (a2 0 ^^^ (-1))), a3, a4, a5)) : wpX_connect post (n, 1, w, al, a1, a2, a3, a4, a5) 0 := by
  have e : ((1 : Int32) - 1).toNatClampNeg = 0 := by decide
  refine br_f (by decide) (br_t (by decide) (br_t rfl (br_t (by decide) ⟨pk_in 0 8 (by omega), nm_r (e' := a2 0) (by rw [e]) (br_t rfl ⟨pk_in 0 8 (by omega), nm_r (e' := vp_updL a2 0 (al &&& (a2 0 ^^^ (-1)))) (by rw [e]) H⟩)⟩)))
theorem bb_tr0 {post : Int32 → Prop} {x : Int32} (H : post (-1)) : wpX_truth post (n, 0, w, al, a1, a2, a3, a4, a5) x :=
  br_t rfl H
theorem bb_tr1 {post : Int32 → Prop} {x : Int32} (h : x < 0 ∨ w ≤ x) (H : post (-2)) : wpX_truth post (n, 1, w, al, a1, a2, a3, a4, a5) x := by
  unfold wpX_truth
  dsimp only
  exact br_f (by decide) (bb_wor0 h (br_t rfl H))
theorem bb_tr2 {post : Int32 → Prop} {x : Int32} (h0 : ¬ x < 0) (h1 : ¬ w ≤ x) (H : post (bb_has (a2 0) x)) : wpX_truth post (n, 1, w, al, a1, a2, a3, a4, a5) x := by
  have e : ((1 : Int32) - 1).toNatClampNeg = 0 := by decide
  unfold wpX_truth
  dsimp only
  rw [e]
  exact br_f (by decide) (bb_wor1 h0 h1 (br_f (by decide) ⟨pk_in 0 8 (by omega), bb_hasT H⟩))
theorem bb_cnt0 {post : Int32 → Prop} {b : Int32} (h : b < 0 ∨ 2 < b) (H : post (-1)) : wpX_count post (n, d, w, al, a1, a2, a3, a4, a5) b := by
  unfold wpX_count
  dsimp only
  exact bb_bel0 h (br_t rfl H)
theorem bb_cnt1 {post : Int32 → Prop} {b : Nat} (hb : b < 3) (H : post (bb_on (a1 b))) : wpX_count post (n, d, w, al, a1, a2, a3, a4, a5) (nI b) := by
  unfold wpX_count
  dsimp only
  rw [nI_clamp (show b < 2 ^ 31 by omega)]
  exact bb_bel1 (nI_pos (by omega)) (bb_nb hb) (br_f (by decide) ⟨pk_in b 3 hb, bb_onesW H⟩)
theorem bb_hol0 {post : Int32 → Prop} {b x : Int32} (h : b < 0 ∨ 2 < b) (H : post (-1)) : wpX_holds post (n, d, w, al, a1, a2, a3, a4, a5) b x := by
  unfold wpX_holds
  dsimp only
  exact bb_bel0 h (br_t rfl H)
theorem bb_hol1 {post : Int32 → Prop} {b : Nat} {x : Int32} (hb : b < 3) (h : x < 0 ∨ w ≤ x) (H : post (-2)) : wpX_holds post (n, d, w, al, a1, a2, a3, a4, a5) (nI b) x := by
  unfold wpX_holds
  dsimp only
  exact bb_bel1 (nI_pos (by omega)) (bb_nb hb) (br_f (by decide) (bb_wor0 h (br_t rfl H)))
theorem bb_hol2 {post : Int32 → Prop} {b : Nat} {x : Int32} (hb : b < 3) (h0 : ¬ x < 0) (h1 : ¬ w ≤ x) (H : post (bb_has (a1 b) x)) : wpX_holds post (n, d, w, al, a1, a2, a3, a4, a5) (nI b) x := by
  unfold wpX_holds
  dsimp only
  rw [nI_clamp (show b < 2 ^ 31 by omega)]
  exact bb_bel1 (nI_pos (by omega)) (bb_nb hb) (br_f (by decide) (bb_wor1 h0 h1 (br_f (by decide) ⟨pk_in b 3 hb, bb_hasT H⟩)))
end
end
section
section
variable {post : Int32 → St0 → Prop} {mc ms kc ks : Nat} {x1 x3 x4 x8 x9 x10 x11 d : Int32} {m : Nat} {a2 a3 a4 a5 : Nat → Int64}
/-- inside: the flag against the world -/
def bb_in (m : Nat) (x3 x10 : Int32) : Prop := (x10 = 0 ∧ (x3 < 0 ∨ nI (2 ^ m) ≤ x3)) ∨ (x10 = 1 ∧ ∃ k, k < 2 ^ m ∧ x3 = nI k)
/-- count and holds: whatever stack and depth -/
theorem bb_238a (hb : x4 < 0 ∨ 2 < x4) (H : post 1 ()) :
    wL_lawOf_238 post mc ms x3 x4 (nI (2 ^ m)) x10 0 kc ks (nI m) d (nI (2 ^ m)) (bb_al m) (bb_B (bb_al m)) a2 a3 a4 a5 := by
  unfold wL_lawOf_238
  refine bb_cnt0 hb (br_t rfl (br_t rfl (bb_hol0 hb (br_f (by decide) (br_t rfl ?_)))))
  exact br_t rfl H
theorem bb_238b (h2 : 2 ≤ m) (h6 : m ≤ 6) (hi : bb_in m x3 x10) {b : Nat} (hb : b < 3) (H : post 1 ()) :
    wL_lawOf_238 post mc ms x3 (nI b) (nI (2 ^ m)) x10 1 kc ks (nI m) d (nI (2 ^ m)) (bb_al m) (bb_B (bb_al m)) a2 a3 a4 a5 := by
  have p6 := bb_pw h6
  unfold wL_lawOf_238
  refine bb_cnt1 hb ?_
  rw [bb_Bj _ b hb, bb_ones m (by omega) h2]
  refine br_f (by decide) (br_t rfl ?_)
  rcases hi with ⟨rfl, hw⟩ | ⟨rfl, k, hk, rfl⟩
  · refine bb_hol1 hb hw (br_f (by decide) (br_f (by decide) (br_t rfl ?_)))
    exact br_t rfl H
  · refine bb_hol2 hb (nI_pos (by omega)) (nI_ge hk (by omega)) ?_
    rw [bb_Bj _ b hb, bb_hasA m (by omega) h2 k hk]
    refine br_t rfl (br_f (by decide) (br_f (by decide) ?_))
    exact br_t rfl H
theorem bb_217 (h2 : 2 ≤ m) (h6 : m ≤ 6) (hi : bb_in m x3 x10) {z : Int32} (H : post 1 ()) :
    wL_lawOf_217 post mc ms x3 x4 (nI (2 ^ m)) x10 z z kc ks (nI m) d (nI (2 ^ m)) (bb_al m) (bb_B (bb_al m)) a2 a3 a4 a5 := by
  unfold wL_lawOf_217
  refine br_t rfl ?_
  rcases pk_ix x4 (n := 3) (by omega) with h | h | ⟨b, hb, rfl⟩
  · exact br_t h (bb_238a (Or.inl h) H)
  · exact br_c (fun z => bb_238a (Or.inl z) H) (fun _ => br_t (bb_gt2 h) (bb_238a (Or.inr (bb_gt2 h)) H))
  · exact br_f (nI_pos (by omega)) (br_f (bb_nb hb) (bb_238b h2 h6 hi hb H))
/-- truth and depth: an empty stack -/
theorem bb_170a (h2 : 2 ≤ m) (h6 : m ≤ 6) (hi : bb_in m x3 x10) (H : post 1 ()) :
    wL_lawOf_170 post mc ms x3 x4 (nI (2 ^ m)) 0 x10 x11 kc ks (nI m) 0 (nI (2 ^ m)) (bb_al m) (bb_B (bb_al m)) a2 a3 a4 a5 := by
  unfold wL_lawOf_170
  refine bb_tr0 (br_t rfl (br_t rfl ?_))
  exact br_t rfl (bb_217 h2 h6 hi H)
/-- truth and depth: one word on the stack -/
theorem bb_170b (h2 : 2 ≤ m) (h6 : m ≤ 6) (hi : bb_in m x3 x10) (hv : x10 = 1 → bb_has (a2 0) x3 = x11) (H : post 1 ()) :
    wL_lawOf_170 post mc ms x3 x4 (nI (2 ^ m)) 1 x10 x11 kc ks (nI m) 1 (nI (2 ^ m)) (bb_al m) (bb_B (bb_al m)) a2 a3 a4 a5 := by
  have p6 := bb_pw h6
  have hi' := hi
  unfold wL_lawOf_170
  rcases hi with ⟨rfl, hw⟩ | ⟨rfl, k, hk, rfl⟩
  · refine bb_tr1 hw (br_f (by decide) (br_t rfl (br_t rfl ?_)))
    exact br_f (by decide) (bb_217 h2 h6 hi' H)
  · refine bb_tr2 (nI_pos (by omega)) (nI_ge hk (by omega)) (br_f (by decide) (br_f (by decide) (br_t (hv rfl) ?_)))
    exact br_f (by decide) (bb_217 h2 h6 hi' H)
/-- behind connect, nothing made -/
theorem bb_resta (h2 : 2 ≤ m) (h6 : m ≤ 6) (h9 : ¬ x9 = 1) (H : post 1 ()) :
    ((x3 < 0 → wL_lawOf_134 post mc ms x1 x3 x4 (nI (2 ^ m)) 0 x9 kc ks (nI m) 0 (nI (2 ^ m)) (bb_al m) (bb_B (bb_al m)) a2 a3 a4 a5) ∧ (¬ x3 < 0 → ((nI (2 ^ m) ≤ x3 → wL_lawOf_134 post mc ms x1 x3 x4 (nI (2 ^ m)) 0 x9 kc ks (nI m) 0 (nI (2 ^ m)) (bb_al m) (bb_B (bb_al m)) a2 a3 a4 a5) ∧ (¬ nI (2 ^ m) ≤ x3 → wL_lawOf_135 post mc ms x1 x3 x4 (nI (2 ^ m)) 0 x9 1 kc ks (nI m) 0 (nI (2 ^ m)) (bb_al m) (bb_B (bb_al m)) a2 a3 a4 a5)))) := by
  have p6 := bb_pw h6
  have K : (x3 < 0 ∨ nI (2 ^ m) ≤ x3) → wL_lawOf_134 post mc ms x1 x3 x4 (nI (2 ^ m)) 0 x9 kc ks (nI m) 0 (nI (2 ^ m)) (bb_al m) (bb_B (bb_al m)) a2 a3 a4 a5 := by
    intro h
    unfold wL_lawOf_134 wL_lawOf_135
    refine br_t rfl ?_
    unfold wL_lawOf_155 wL_lawOf_156
    exact br_f h9 (bb_170a h2 h6 (Or.inl ⟨rfl, h⟩) H)
  rcases pk_ix x3 (n := 2 ^ m) (by omega) with h | h | ⟨k, hk, rfl⟩
  · exact br_t h (K (Or.inl h))
  · exact br_c (fun z => K (Or.inl z)) (fun _ => br_t h (K (Or.inr h)))
  · refine br_f (nI_pos (by omega)) (br_f (nI_ge hk (by omega)) ?_)
    unfold wL_lawOf_135
    refine br_f (by decide) (br_t rfl ?_)
    unfold wL_lawOf_155 wL_lawOf_156
    exact br_f h9 (bb_170a h2 h6 (Or.inr ⟨rfl, k, hk, rfl⟩) H)
/-- behind connect, one atom made, negated or not -/
theorem bb_restb (h2 : 2 ≤ m) (h6 : m ≤ 6) {v : Nat} (hv : v < m) (h9 : (x9 = 1 ∧ a2 0 = bb_al m &&& (bb_at m v ^^^ (-1))) ∨ (¬ x9 = 1 ∧ a2 0 = bb_at m v)) (H : post 1 ()) :
    ((x3 < 0 → wL_lawOf_134 post mc ms (nI v) x3 x4 (nI (2 ^ m)) 1 x9 kc ks (nI m) 1 (nI (2 ^ m)) (bb_al m) (bb_B (bb_al m)) a2 a3 a4 a5) ∧ (¬ x3 < 0 → ((nI (2 ^ m) ≤ x3 → wL_lawOf_134 post mc ms (nI v) x3 x4 (nI (2 ^ m)) 1 x9 kc ks (nI m) 1 (nI (2 ^ m)) (bb_al m) (bb_B (bb_al m)) a2 a3 a4 a5) ∧ (¬ nI (2 ^ m) ≤ x3 → wL_lawOf_135 post mc ms (nI v) x3 x4 (nI (2 ^ m)) 1 x9 1 kc ks (nI m) 1 (nI (2 ^ m)) (bb_al m) (bb_B (bb_al m)) a2 a3 a4 a5)))) := by
  have p6 := bb_pw h6
  have K : (x3 < 0 ∨ nI (2 ^ m) ≤ x3) → wL_lawOf_134 post mc ms (nI v) x3 x4 (nI (2 ^ m)) 1 x9 kc ks (nI m) 1 (nI (2 ^ m)) (bb_al m) (bb_B (bb_al m)) a2 a3 a4 a5 := by
    intro h
    unfold wL_lawOf_134 wL_lawOf_135
    refine br_t rfl ?_
    unfold wL_lawOf_155 wL_lawOf_156
    exact br_c (fun _ => nm_e (bb_170b h2 h6 (Or.inl ⟨rfl, h⟩) (fun z => absurd z (by decide)) H)) (fun _ => bb_170b h2 h6 (Or.inl ⟨rfl, h⟩) (fun z => absurd z (by decide)) H)
  rcases pk_ix x3 (n := 2 ^ m) (by omega) with h | h | ⟨k, hk, rfl⟩
  · exact br_t h (K (Or.inl h))
  · exact br_c (fun z => K (Or.inl z)) (fun _ => br_t h (K (Or.inr h)))
  · refine br_f (nI_pos (by omega)) (br_f (nI_ge hk (by omega)) ?_)
    unfold wL_lawOf_135
    refine br_f (by decide) (br_f (by decide) ?_)
    unfold wL_lawOf_156
    rcases h9 with ⟨e9, ea⟩ | ⟨e9, ea⟩
    · exact br_t e9 (nm_e (bb_170b h2 h6 (Or.inr ⟨rfl, k, hk, rfl⟩) (fun _ => by rw [ea]; exact bb_hasN m (by omega) h2 v hv k hk) H))
    · exact br_f e9 (bb_170b h2 h6 (Or.inr ⟨rfl, k, hk, rfl⟩) (fun _ => by rw [ea]; exact bb_hasP m (by omega) h2 v hv k hk) H)
end
end
section
section
variable {post : Int32 → St0 → Prop} {mc ms kc ks : Nat} {x1 x2 x3 x4 : Int32} {m : Nat} {a2 a3 a4 a5 : Nat → Int64}
/-- behind atom, nothing made -/
theorem bb_72a (h2 : 2 ≤ m) (h6 : m ≤ 6) {z : Int32} (H : post 1 ()) :
    wL_lawOf_72 post mc ms x1 x2 x3 x4 (nI (2 ^ m)) 0 z z kc ks (nI m) 0 (nI (2 ^ m)) (bb_al m) (bb_B (bb_al m)) a2 a3 a4 a5 := by
  have K : (x2 < 0 ∨ ¬ x2 ≤ 4) → wL_lawOf_86 post mc ms x1 x2 x3 x4 (nI (2 ^ m)) 0 kc ks (nI m) 0 (nI (2 ^ m)) (bb_al m) (bb_B (bb_al m)) a2 a3 a4 a5 := by
    intro h
    unfold wL_lawOf_86 wL_lawOf_105
    exact bb_cout h (br_t rfl (bb_resta h2 h6 (by decide) H))
  have N : ¬ x2 < 0 → x2 ≤ 4 → wL_lawOf_103 post mc ms x1 x2 x3 x4 (nI (2 ^ m)) 0 kc ks (nI m) 0 (nI (2 ^ m)) (bb_al m) (bb_B (bb_al m)) a2 a3 a4 a5 := by
    intro h0 h4
    unfold wL_lawOf_103 wL_lawOf_105
    exact bb_clow h0 h4 ⟨fun _ => by decide, fun _ => by decide⟩ (br_t rfl (bb_resta h2 h6 (by decide) H))
  unfold wL_lawOf_72
  exact br_t rfl (br_c (fun h => K (Or.inl h)) (fun h0 => br_c (fun h4 => br_c (fun _ => br_t rfl (N h0 h4)) (fun _ => N h0 h4)) (fun h4 => K (Or.inr h4))))
/-- behind atom, one atom made -/
theorem bb_72b (h2 : 2 ≤ m) (h6 : m ≤ 6) {v : Nat} (hv : v < m) (ha : a2 0 = bb_at m v) {z : Int32} (H : post 1 ()) :
    wL_lawOf_72 post mc ms (nI v) x2 x3 x4 (nI (2 ^ m)) 1 z z kc ks (nI m) 1 (nI (2 ^ m)) (bb_al m) (bb_B (bb_al m)) a2 a3 a4 a5 := by
  have K : (x2 < 0 ∨ ¬ x2 ≤ 4) → wL_lawOf_86 post mc ms (nI v) x2 x3 x4 (nI (2 ^ m)) 1 kc ks (nI m) 1 (nI (2 ^ m)) (bb_al m) (bb_B (bb_al m)) a2 a3 a4 a5 := by
    intro h
    unfold wL_lawOf_86 wL_lawOf_105
    exact bb_cout h (br_t rfl (bb_restb h2 h6 hv (Or.inr ⟨by decide, ha⟩) H))
  unfold wL_lawOf_72
  refine br_t rfl (br_c (fun h => K (Or.inl h)) (fun h0 => br_c (fun h4 => br_c (fun e => ?_) (fun e => ?_)) (fun h4 => K (Or.inr h4))))
  · subst e
    refine br_f (by decide) ?_
    unfold wL_lawOf_105
    exact bb_cnot (br_t rfl (bb_restb h2 h6 hv (Or.inl ⟨rfl, by rw [pk_uLs, ha]⟩) H))
  · unfold wL_lawOf_103 wL_lawOf_105
    exact bb_clow h0 h4 ⟨fun z => absurd z e, fun _ => by decide⟩ (br_t rfl (bb_restb h2 h6 hv (Or.inr ⟨by decide, ha⟩) H))
/-- behind the clamp -/
theorem bb_33 (h2 : 2 ≤ m) (h6 : m ≤ 6) (H : post 1 ()) :
    wL_lawOf_33 post mc ms x1 x2 x3 x4 (nI m) kc ks (nI m) 0 (nI (2 ^ m)) (bb_al m) (bb_B (bb_al m)) (fun _ => 0) bb_z (fun _ => 0) (fun _ => 0) := by
  have K : (x1 < 0 ∨ nI m ≤ x1) → wL_lawOf_53 post mc ms x1 x2 x3 x4 (nI (2 ^ m)) kc ks (nI m) 0 (nI (2 ^ m)) (bb_al m) (bb_B (bb_al m)) (fun _ => 0) bb_z (fun _ => 0) (fun _ => 0) := by
    intro h
    unfold wL_lawOf_53 wL_lawOf_54
    exact bb_atom0 h (br_t rfl (bb_72a h2 h6 H))
  unfold wL_lawOf_33
  refine nm_r (bb_wl m (by omega)) ?_
  rcases pk_ix x1 (n := m) (by omega) with h | h | ⟨v, hv, rfl⟩
  · exact br_t h (K (Or.inl h))
  · exact br_c (fun z => K (Or.inl z)) (fun _ => br_t h (K (Or.inr h)))
  · refine br_f (nI_pos (by omega)) (br_f (nI_ge hv (by omega)) ?_)
    unfold wL_lawOf_54
    exact bb_atom1 hv h6 (br_f (by decide) (bb_72b h2 h6 hv (by rw [pk_uLs]; rfl) H))
end
theorem bb_lawOf {post : Int32 → St0 → Prop} (p0 p1 p2 p3 p4 : Int32) (H : post 1 ()) : wpL_lawOf post 6 42 () p0 p1 p2 p3 p4 := by
  obtain ⟨m, h2, h6, hm⟩ := bb_cl p0
  refine ⟨by omega, by omega, 5, 33, by omega, by omega, bb_init (by omega) (by omega) h6 hm ?_⟩
  exact bb_cb (A := fun z => wL_lawOf_33 post 6 42 p1 p2 p3 p4 z (1 + 5) (9 + 33) (nI m) 0 (nI (2 ^ m)) (bb_al m) (bb_B (bb_al m)) (fun _ => 0) bb_z (fun _ => 0) (fun _ => 0)) hm (bb_33 h2 h6 H)
theorem bb_cell {post : Int32 → Prop} {L : Nat} {xs : Nat → Int32} (hL : L ≤ 5) (i : Nat) (hi : i < 5) {p : Int32} (hp : p = nI i) (H : ∀ r, post r) : wpL_cellAt post L xs () p :=
  pk_le L i (fun _ => H _) (fun z => ⟨pk_in i L z hp (by omega), H _⟩) rfl hp (by omega) (by omega)
theorem i_vc (xs : Nat → Int32) (L : Nat) (hL : L ≤ 5) : wpL_law (fun r => r = 1) L xs :=
  bb_cell hL 0 (by omega) rfl (fun r1 => bb_cell hL 1 (by omega) rfl (fun r2 => bb_cell hL 2 (by omega) rfl (fun r3 => bb_cell hL 3 (by omega) rfl (fun r4 => bb_cell hL 4 (by omega) rfl (fun r5 =>
    ⟨6, 42, by omega, by omega, bb_lawOf r1 r2 r3 r4 r5 rfl⟩)))))
end
