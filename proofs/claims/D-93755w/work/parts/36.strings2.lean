/-! String.charAt over a literal, in range (mine) -/
def sx_c (i j : Nat) : Int32 := (sx_byt.getD i []).getD j 0
theorem sx_nI : ∀ i : Nat, i < 14 → (sx_n i).toInt = (sx_len.getD i 0 : Int) := by decide +kernel
theorem sx_cc : ∀ i : Nat, i < 14 → ∀ j : Nat, j < sx_len.getD i 0 → ((sx_c i j &&& 255).toUInt32 % 65536).toInt32 = sx_c i j := by decide +kernel
theorem sx_nar {x : Int32} (h : (x.toUInt32 % 65536).toInt32 = x) : narrow .char (.int x) = .int x := by
  show Value.int _ = _
  exact congrArg Value.int h
theorem sx_c0 : ∀ i : Nat, i < 14 → ∀ j : Nat, j < sx_len.getD i 0 → ((sx_c i j).toUInt32 % 65536).toInt32 = sx_c i j := by decide +kernel
abbrev rmJ5_checkIndex : Room := { frames := 0, cells := 0, slots := 0, locals := 0 }
theorem mJ5_checkIndex {l : Launch} {γ : wx_G} {ws : va_W} {k n : Int32} {r : Nat} (h0 : ¬ k < 0) (h1 : k < n) : wx_M γ l yJ5_checkIndex (ws_ yJ5_checkIndex cJ5_checkIndex 3 (some .int)) rmJ5_checkIndex [.int k, .int n, .ref r] ws (fun v ws' => v = some (.int k) ∧ ws' = ws) 0 0 := by
  refine wx_M.of (by decide) (Nat.le_of_ble_eq_true rfl) ?_
  intro p e s m as below meth c A ls C K w hr hlocks _ hl
  have hx := C.1
  have hb := C.2.1
  refine lv_iload_n hx hb dJ5_checkIndex_0 rfl (lv_at hl 0 rfl) ?_
  refine lv_if_lt (tgt := 9) hx hb dJ5_checkIndex_1 (by decide) (fun c => absurd c h0) (fun c => ?_)
  refine lv_iload_n hx hb dJ5_checkIndex_4 rfl (lv_at hl 0 rfl) ?_
  refine lv_iload_n hx hb dJ5_checkIndex_5 rfl (lv_at hl 1 rfl) ?_
  refine lv_icmp_lt (tgt := 16) hx hb dJ5_checkIndex_6 (by decide) (fun c => ?_) (fun c => absurd h1 c)
  refine lv_iload_n hx hb dJ5_checkIndex_16 rfl (lv_at hl 0 rfl) ?_
  exact wx_iret C hr hlocks w ⟨rfl, rfl⟩ dJ5_checkIndex_17
theorem mJ5_checkIndexN {l : Launch} {γ : wx_G} {ws : va_W} {k n : Int32} (h0 : ¬ k < 0) (h1 : k < n) : wx_M γ l yJ5_checkIndex (ws_ yJ5_checkIndex cJ5_checkIndex 3 (some .int)) rmJ5_checkIndex [.int k, .int n, .null] ws (fun v ws' => v = some (.int k) ∧ ws' = ws) 0 0 := by
  refine wx_M.of (by decide) (Nat.le_of_ble_eq_true rfl) ?_
  intro p e s m as below meth c A ls C K w hr hlocks _ hl
  have hx := C.1
  have hb := C.2.1
  refine lv_iload_n hx hb dJ5_checkIndex_0 rfl (lv_at hl 0 rfl) ?_
  refine lv_if_lt (tgt := 9) hx hb dJ5_checkIndex_1 (by decide) (fun c => absurd c h0) (fun c => ?_)
  refine lv_iload_n hx hb dJ5_checkIndex_4 rfl (lv_at hl 0 rfl) ?_
  refine lv_iload_n hx hb dJ5_checkIndex_5 rfl (lv_at hl 1 rfl) ?_
  refine lv_icmp_lt (tgt := 16) hx hb dJ5_checkIndex_6 (by decide) (fun c => ?_) (fun c => absurd h1 c)
  refine lv_iload_n hx hb dJ5_checkIndex_16 rfl (lv_at hl 0 rfl) ?_
  exact wx_iret C hr hlocks w ⟨rfl, rfl⟩ dJ5_checkIndex_17
abbrev rmJ3_checkIndex : Room := { frames := 1, cells := 0, slots := 0, locals := 22 }
theorem mJ3_checkIndex {l : Launch} {γ : wx_G} {ws : va_W} {k n : Int32} (S : sx_ok γ) (h0 : ¬ k < 0) (h1 : k < n) : wx_M γ l yJ3_checkIndex (ws_ yJ3_checkIndex cJ3_checkIndex 2 none) rmJ3_checkIndex [.int k, .int n] ws (fun v ws' => v = none ∧ ws' = ws) 0 0 := by
  refine wx_M.of (by decide) (Nat.le_of_ble_eq_true rfl) ?_
  intro p e s m as below meth c A ls C K w hr hlocks _ hl
  have hx := C.1
  have hb := C.2.1
  refine lv_iload_n hx hb dJ3_checkIndex_0 rfl (lv_at hl 0 rfl) ?_
  refine lv_iload_n hx hb dJ3_checkIndex_1 rfl (lv_at hl 1 rfl) ?_
  rcases S.2.2.1 with hS | hS
  · refine va_gets hx hb (wx_Zs K hS) w.2.2 C.2.2.2.1 (C.2.2.2.2 _ q453) (fun _ h => h) dJ3_checkIndex_2 ?_
    refine wx_callS (n := 3) C K w (mJ5_checkIndex (l := l) (ws := ws) (r := γ.2.1 199) h0 h1) q455 q456 q114 q457 rfl rfl (by decide +kernel) rfl rfl ⟨Nat.le_of_ble_eq_true rfl, Nat.le_of_ble_eq_true rfl⟩ hl.1 (Nat.le_of_ble_eq_true rfl) ⟨Nat.le_of_ble_eq_true rfl, Nat.le_of_ble_eq_true rfl⟩ dJ3_checkIndex_5 (fun v ws2 H1 locs1 hp w2 => ?_)
    obtain ⟨rfl, rfl⟩ := hp
    refine lv_pop hx hb dJ3_checkIndex_8 rfl ?_
    exact wx_vret C hr hlocks w2 ⟨rfl, rfl⟩ dJ3_checkIndex_9
  · refine va_gets hx hb (wx_Zs K hS) w.2.2 C.2.2.2.1 (C.2.2.2.2 _ q453) (fun _ h => h) dJ3_checkIndex_2 ?_
    refine wx_callS (n := 3) C K w (mJ5_checkIndexN (l := l) (ws := ws) h0 h1) q455 q456 q114 q457 rfl rfl (by decide +kernel) rfl rfl ⟨Nat.le_of_ble_eq_true rfl, Nat.le_of_ble_eq_true rfl⟩ hl.1 (Nat.le_of_ble_eq_true rfl) ⟨Nat.le_of_ble_eq_true rfl, Nat.le_of_ble_eq_true rfl⟩ dJ3_checkIndex_5 (fun v ws2 H1 locs1 hp w2 => ?_)
    obtain ⟨rfl, rfl⟩ := hp
    refine lv_pop hx hb dJ3_checkIndex_8 rfl ?_
    exact wx_vret C hr hlocks w2 ⟨rfl, rfl⟩ dJ3_checkIndex_9
abbrev rmJ4_charAt : Room := { frames := 2, cells := 0, slots := 0, locals := 43 }
theorem mJ4_charAt {l : Launch} {γ : wx_G} {ws : va_W} {k : Int32} {i : Nat} (S : sx_ok γ) (hi : i < 14) (hk : vp_in k (sx_len.getD i 0)) : wx_M γ l yJ4_charAt (ws_ yJ4_charAt cJ4_charAt 2 (some .char)) rmJ4_charAt [.ref (sx_v γ i), .int k] ws (fun v ws' => v = some (.int (sx_c i k.toNatClampNeg)) ∧ ws' = ws) 0 0 := by
  refine wx_M.of (by decide) (Nat.le_of_ble_eq_true rfl) ?_
  intro p e s m as below meth c A ls C K w hr hlocks _ hl
  have hx := C.1
  have hb := C.2.1
  have hj : k.toNatClampNeg < sx_len.getD i 0 := Nat.lt_of_not_le (fun z => hk (Or.inr z))
  have h1 : k < sx_n i := by
    rw [Int32.lt_iff_toInt_lt, sx_nI i hi]
    exact (vp_in_iff.mp hk).2
  refine lv_iload_n hx hb dJ4_charAt_0 rfl (lv_at hl 1 rfl) ?_
  refine lv_aload_n hx hb dJ4_charAt_1 rfl (lv_at hl 0 rfl) ?_
  refine va_tlen hx hb ((sx_S K S).1 i hi).2.2.2 w.2.2 (v := sx_n i) rfl dJ4_charAt_2 ?_
  refine wx_callS (n := 2) C K w (mJ3_checkIndex (l := l) (ws := ws) S (fun z => hk (Or.inl z)) h1) q450 q451 q112 q452 rfl rfl (by decide +kernel) rfl rfl ⟨Nat.le_of_ble_eq_true rfl, Nat.le_of_ble_eq_true rfl⟩ hl.1 (Nat.le_of_ble_eq_true rfl) ⟨Nat.le_of_ble_eq_true rfl, Nat.le_of_ble_eq_true rfl⟩ dJ4_charAt_3 (fun v ws2 H1 locs1 hp w2 => ?_)
  obtain ⟨rfl, rfl⟩ := hp
  refine lv_aload_n hx hb dJ4_charAt_6 rfl (lv_at hl 0 rfl) ?_
  refine lv_iload_n hx hb dJ4_charAt_7 rfl (lv_at hl 1 rfl) ?_
  refine va_tb hx hb ((sx_S K S).1 i hi).2.2.2 w2.2.2 hk (v := .int (sx_c i k.toNatClampNeg)) rfl dJ4_charAt_8 ?_
  refine lv_sipush (v := 255) hx hb dJ4_charAt_9 (by decide) ?_
  refine lv_iand hx hb dJ4_charAt_12 ?_
  refine lv_i2c (v := sx_c i k.toNatClampNeg) hx hb dJ4_charAt_13 (sx_cc i hi _ hj) ?_
  exact wx_zret C hr hlocks (sx_nar (sx_c0 i hi _ hj)) w2 ⟨rfl, rfl⟩ dJ4_charAt_14
abbrev rmJ3_charAt : Room := { frames := 3, cells := 0, slots := 0, locals := 64 }
theorem mJ3_charAt {l : Launch} {γ : wx_G} {ws : va_W} {k : Int32} {i : Nat} (S : sx_ok γ) (hi : i < 14) (hk : vp_in k (sx_len.getD i 0)) : wx_M γ l yJ3_charAt (ws_ yJ3_charAt cJ3_charAt 2 (some .char)) rmJ3_charAt [.ref (sx_k γ i), .int k] ws (fun v ws' => v = some (.int (sx_c i k.toNatClampNeg)) ∧ ws' = ws) 0 0 := by
  refine wx_M.of (by decide) (Nat.le_of_ble_eq_true rfl) ?_
  intro p e s m as below meth c A ls C K w hr hlocks _ hl
  have hx := C.1
  have hb := C.2.1
  have hj : k.toNatClampNeg < sx_len.getD i 0 := Nat.lt_of_not_le (fun z => hk (Or.inr z))
  refine lv_aload_n hx hb dJ3_charAt_0 rfl (lv_at hl 0 rfl) ?_
  refine wx_callV (n := 0) C K w (mJ3_isLatin1 (l := l) (ws := ws) S hi) q443 q444 q445 q112 q446 rfl rfl (by decide +kernel) (vk_recv (sx_S K S) hi w.2.2) rfl rfl ⟨Nat.le_of_ble_eq_true rfl, Nat.le_of_ble_eq_true rfl⟩ hl.1 (Nat.le_of_ble_eq_true rfl) ⟨Nat.le_of_ble_eq_true rfl, Nat.le_of_ble_eq_true rfl⟩ dJ3_charAt_1 (fun v ws2 H1 locs1 hp w2 => ?_)
  obtain ⟨rfl, rfl⟩ := hp
  refine lv_if_eq (x := 1) (tgt := 16) hx hb dJ3_charAt_4 (by decide) (fun c => absurd c (by decide)) (fun c => ?_)
  refine lv_aload_n hx hb dJ3_charAt_7 rfl (lv_at hl 0 rfl) ?_
  refine vk_getf hx hb ((sx_S K S).1 i hi).2.2.1 w2.2.2 C.2.2.2.1 (C.2.2.2.2 _ q1844) (fun _ h => h) dJ3_charAt_8 ?_
  refine lv_iload_n hx hb dJ3_charAt_11 rfl (lv_at hl 1 rfl) ?_
  refine wx_callS (n := 2) C K w2 (mJ4_charAt (l := l) S hi hk) q447 q448 q113 q449 rfl rfl (by decide +kernel) rfl rfl ⟨Nat.le_of_ble_eq_true rfl, Nat.le_of_ble_eq_true rfl⟩ hl.1 (Nat.le_of_ble_eq_true rfl) ⟨Nat.le_of_ble_eq_true rfl, Nat.le_of_ble_eq_true rfl⟩ dJ3_charAt_12 (fun v ws3 H1 locs1 hp w3 => ?_)
  obtain ⟨rfl, rfl⟩ := hp
  exact wx_zret C hr hlocks (sx_nar (sx_c0 i hi _ hj)) w3 ⟨rfl, rfl⟩ dJ3_charAt_15
