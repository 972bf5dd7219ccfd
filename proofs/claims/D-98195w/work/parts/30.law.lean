def f_X0_law_ (L0 : Nat) (xs : Nat → Int32) (bc bs : Nat) (M : gM) : Prop :=
  ∀ P23 : Nat → Nat → Nat → Int32 → Nat → Nat → gM → Prop,
  ∀ P1547 : Nat → Nat → Nat → Int32 → Int32 → Nat → Nat → Nat → gM → Prop,
  ∀ P1565 : Nat → Nat → Nat → Int32 → Int32 → Nat → Int32 → Nat → Nat → gM → Prop,
  ∀ P1947 : Nat → Nat → Nat → Int32 → Int64 → Int64 → Nat → Nat → gM → Prop,
  ∀ P2040 : Nat → Nat → Nat → Int32 → Int32 → Int32 → Int32 → Nat → Nat → Nat → gM → Prop,
  ∀ P2073 : Nat → Nat → Nat → Int32 → Int32 → Int32 → Int32 → Int32 → Nat → Nat → Nat → gM → Prop,
  ∀ P2278 : Nat → Nat → Nat → Int32 → Int32 → Int32 → Nat → Nat → Nat → gM → Prop,
  ∀ P2305 : Nat → Nat → Nat → Int32 → Int32 → Int32 → Int32 → Nat → Nat → Nat → gM → Prop,
  ∀ P2362 : Nat → Nat → Nat → Int32 → Int32 → Int32 → Nat → Nat → Nat → gM → Prop,
  ∀ P2389 : Nat → Nat → Nat → Int32 → Int32 → Int32 → Int32 → Nat → Nat → Nat → gM → Prop,
  ∀ P2595 : Nat → Nat → Nat → Int32 → Int32 → Int32 → Nat → Nat → Nat → gM → Prop,
  ∀ P2622 : Nat → Nat → Nat → Int32 → Int32 → Int32 → Int32 → Nat → Nat → Nat → gM → Prop,
  (∀ (v1 : Nat) (v2 : Nat) (v3 : Nat) (v4 : Int32) (bc bs : Nat) (M : gM), (if ((nI L0) - 6) < v4 then True else vp_in v4 L0 ∧ if ((xs (ix v4)) &&& 63) = 0 then vp_in (v4 + 1) L0 ∧ vp_in (v4 + 2) L0 ∧ vp_in (v4 + 3) L0 ∧ vp_in (v4 + 4) L0 ∧ vp_in (v4 + 5) L0 ∧ kd M v1 = some (.inl 1) ∧ f_X1_feed v1 (xs (ix (v4 + 1))) (xs (ix (v4 + 2))) (xs (ix (v4 + 3))) (xs (ix (v4 + 4))) (xs (ix (v4 + 5))) M (fun x28 M27 => vp_in (v4 + 1) L0 ∧ vp_in (v4 + 2) L0 ∧ vp_in (v4 + 3) L0 ∧ vp_in (v4 + 4) L0 ∧ vp_in (v4 + 5) L0 ∧ kd M27 v2 = some (.inl 10) ∧ f_X10_feed v2 (xs (ix (v4 + 1))) (xs (ix (v4 + 2))) (xs (ix (v4 + 3))) (xs (ix (v4 + 4))) (xs (ix (v4 + 5))) M27 (fun x36 M35 => if x28 = x36 then P23 v1 v2 v3 (v4 + 6) bc bs M35 else False)) else if ((xs (ix v4)) &&& 63) = 1 then vp_in (v4 + 1) L0 ∧ kd M v1 = some (.inl 1) ∧ f_X1_end v1 (xs (ix (v4 + 1))) M (fun x42 M41 => vp_in (v4 + 1) L0 ∧ kd M41 v2 = some (.inl 10) ∧ f_X10_end v2 (xs (ix (v4 + 1))) M41 (fun x46 M45 => if x42 = x46 then P23 v1 v2 v3 (v4 + 6) bc bs M45 else False)) else if ((xs (ix v4)) &&& 63) = 2 then 1 ≤ bc ∧ 6 ≤ bs ∧ f_X0_valley v1 v3 M (fun x52 M51 => kd M51 v2 = some (.inl 10) ∧ f_X10_valley v2 M51 (fun x55 M54 => kd M54 v2 = some (.inl 10) ∧ f_X10_thrown v2 M54 (fun x58 M57 => if x58 = x52 then if x52 = 0 then inA M57 v3 2 0 ∧ if (lg_cmp (jv M57 v3 (ix 0)) (x55.toInt64)) = 0 then P23 v1 v2 v3 (v4 + 6) (bc - 1) (bs - 6) M57 else False else P23 v1 v2 v3 (v4 + 6) (bc - 1) (bs - 6) M57 else False))) else if ((xs (ix v4)) &&& 63) = 3 then ∃ c64 z65, c64 ≤ bc ∧ z65 ≤ bs ∧ f_X0_law v1 v3 c64 z65 M (fun x69 M68 => kd M68 v2 = some (.inl 10) ∧ f_X10_law v2 M68 (fun x72 M71 => kd M71 v2 = some (.inl 10) ∧ f_X10_thrown v2 M71 (fun x75 M74 => if x75 = x69 then if x69 = 0 then inA M74 v3 2 0 ∧ if (lg_cmp (jv M74 v3 (ix 0)) (x72.toInt64)) = 0 then P23 v1 v2 v3 (v4 + 6) (bc - c64) (bs - z65) M74 else False else P23 v1 v2 v3 (v4 + 6) (bc - c64) (bs - z65) M74 else False))) else if ((xs (ix v4)) &&& 63) = 4 then kd M v1 = some (.inl 1) ∧ f_X1_fault v1 M (fun x83 M82 => kd M82 v2 = some (.inl 10) ∧ f_X10_fault v2 M82 (fun x86 M85 => if x83 = x86 then P23 v1 v2 v3 (v4 + 6) bc bs M85 else False)) else if ((xs (ix v4)) &&& 63) = 5 then vp_in (v4 + 1) L0 ∧ 1 ≤ bc ∧ 6 ≤ bs ∧ f_X0_heat v1 (xs (ix (v4 + 1))) v3 M (fun x93 M92 => vp_in (v4 + 1) L0 ∧ kd M92 v2 = some (.inl 10) ∧ f_X10_heat v2 (xs (ix (v4 + 1))) M92 (fun x97 M96 => kd M96 v2 = some (.inl 10) ∧ f_X10_thrown v2 M96 (fun x100 M99 => if x100 = x93 then if x93 = 0 then inA M99 v3 2 0 ∧ if (lg_cmp (jv M99 v3 (ix 0)) (x97.toInt64)) = 0 then P23 v1 v2 v3 (v4 + 6) (bc - 1) (bs - 6) M99 else False else P23 v1 v2 v3 (v4 + 6) (bc - 1) (bs - 6) M99 else False))) else if ((xs (ix v4)) &&& 63) = 6 then vp_in (v4 + 1) L0 ∧ vp_in (v4 + 2) L0 ∧ 2 ≤ bc ∧ 12 ≤ bs ∧ f_X0_speed v1 (xs (ix (v4 + 1))) (xs (ix (v4 + 2))) v3 M (fun x111 M110 => vp_in (v4 + 1) L0 ∧ vp_in (v4 + 2) L0 ∧ kd M110 v2 = some (.inl 10) ∧ f_X10_speed v2 (xs (ix (v4 + 1))) (xs (ix (v4 + 2))) M110 (fun x116 M115 => kd M115 v2 = some (.inl 10) ∧ f_X10_thrown v2 M115 (fun x119 M118 => if x119 = x111 then if x111 = 0 then inA M118 v3 2 0 ∧ if (lg_cmp (jv M118 v3 (ix 0)) (x116.toInt64)) = 0 then P23 v1 v2 v3 (v4 + 6) (bc - 2) (bs - 12) M118 else False else P23 v1 v2 v3 (v4 + 6) (bc - 2) (bs - 12) M118 else False))) else if ((xs (ix v4)) &&& 63) = 7 then vp_in (v4 + 1) L0 ∧ vp_in (v4 + 2) L0 ∧ vp_in (v4 + 3) L0 ∧ 3 ≤ bc ∧ 18 ≤ bs ∧ f_X0_flow v1 (xs (ix (v4 + 1))) (xs (ix (v4 + 2))) (xs (ix (v4 + 3))) v3 M (fun x131 M130 => vp_in (v4 + 1) L0 ∧ vp_in (v4 + 2) L0 ∧ vp_in (v4 + 3) L0 ∧ kd M130 v2 = some (.inl 10) ∧ f_X10_flow v2 (xs (ix (v4 + 1))) (xs (ix (v4 + 2))) (xs (ix (v4 + 3))) M130 (fun x137 M136 => kd M136 v2 = some (.inl 10) ∧ f_X10_thrown v2 M136 (fun x140 M139 => if x140 = x131 then if x131 = 0 then inA M139 v3 2 0 ∧ if (lg_cmp (jv M139 v3 (ix 0)) (x137.toInt64)) = 0 then P23 v1 v2 v3 (v4 + 6) (bc - 3) (bs - 18) M139 else False else P23 v1 v2 v3 (v4 + 6) (bc - 3) (bs - 18) M139 else False))) else if ((xs (ix v4)) &&& 63) = 8 then vp_in (v4 + 1) L0 ∧ vp_in (v4 + 2) L0 ∧ 2 ≤ bc ∧ 12 ≤ bs ∧ f_X0_person v1 (xs (ix (v4 + 1))) (xs (ix (v4 + 2))) v3 M (fun x151 M150 => vp_in (v4 + 1) L0 ∧ vp_in (v4 + 2) L0 ∧ kd M150 v2 = some (.inl 10) ∧ f_X10_person v2 (xs (ix (v4 + 1))) (xs (ix (v4 + 2))) M150 (fun x156 M155 => kd M155 v2 = some (.inl 10) ∧ f_X10_thrown v2 M155 (fun x159 M158 => if x159 = x151 then if x151 = 0 then inA M158 v3 2 0 ∧ if (lg_cmp (jv M158 v3 (ix 0)) (x156.toInt64)) = 0 then P23 v1 v2 v3 (v4 + 6) (bc - 2) (bs - 12) M158 else False else P23 v1 v2 v3 (v4 + 6) (bc - 2) (bs - 12) M158 else False))) else if ((xs (ix v4)) &&& 63) = 9 then vp_in (v4 + 1) L0 ∧ vp_in (v4 + 2) L0 ∧ 2 ≤ bc ∧ 12 ≤ bs ∧ f_X0_letter v1 (xs (ix (v4 + 1))) (xs (ix (v4 + 2))) v3 M (fun x170 M169 => vp_in (v4 + 1) L0 ∧ vp_in (v4 + 2) L0 ∧ kd M169 v2 = some (.inl 10) ∧ f_X10_letter v2 (xs (ix (v4 + 1))) (xs (ix (v4 + 2))) M169 (fun x175 M174 => kd M174 v2 = some (.inl 10) ∧ f_X10_thrown v2 M174 (fun x178 M177 => if x178 = x170 then if x170 = 0 then inA M177 v3 2 0 ∧ if (lg_cmp (jv M177 v3 (ix 0)) (x175.toInt64)) = 0 then P23 v1 v2 v3 (v4 + 6) (bc - 2) (bs - 12) M177 else False else P23 v1 v2 v3 (v4 + 6) (bc - 2) (bs - 12) M177 else False))) else if ((xs (ix v4)) &&& 63) = 10 then vp_in (v4 + 1) L0 ∧ vp_in (v4 + 2) L0 ∧ 2 ≤ bc ∧ 12 ≤ bs ∧ f_X0_where v1 (xs (ix (v4 + 1))) (xs (ix (v4 + 2))) v3 M (fun x189 M188 => vp_in (v4 + 1) L0 ∧ vp_in (v4 + 2) L0 ∧ kd M188 v2 = some (.inl 10) ∧ f_X10_where v2 (xs (ix (v4 + 1))) (xs (ix (v4 + 2))) M188 (fun x194 M193 => kd M193 v2 = some (.inl 10) ∧ f_X10_thrown v2 M193 (fun x197 M196 => if x197 = x189 then if x189 = 0 then inA M196 v3 2 0 ∧ if (lg_cmp (jv M196 v3 (ix 0)) (x194.toInt64)) = 0 then P23 v1 v2 v3 (v4 + 6) (bc - 2) (bs - 12) M196 else False else P23 v1 v2 v3 (v4 + 6) (bc - 2) (bs - 12) M196 else False))) else if ((xs (ix v4)) &&& 63) = 11 then vp_in (v4 + 1) L0 ∧ vp_in (v4 + 2) L0 ∧ 2 ≤ bc ∧ 12 ≤ bs ∧ f_X0_deep v1 (xs (ix (v4 + 1))) (xs (ix (v4 + 2))) v3 M (fun x208 M207 => vp_in (v4 + 1) L0 ∧ vp_in (v4 + 2) L0 ∧ kd M207 v2 = some (.inl 10) ∧ f_X10_deep v2 (xs (ix (v4 + 1))) (xs (ix (v4 + 2))) M207 (fun x213 M212 => kd M212 v2 = some (.inl 10) ∧ f_X10_thrown v2 M212 (fun x216 M215 => if x216 = x208 then if x208 = 0 then inA M215 v3 2 0 ∧ if (lg_cmp (jv M215 v3 (ix 0)) (x213.toInt64)) = 0 then P23 v1 v2 v3 (v4 + 6) (bc - 2) (bs - 12) M215 else False else P23 v1 v2 v3 (v4 + 6) (bc - 2) (bs - 12) M215 else False))) else if ((xs (ix v4)) &&& 63) = 12 then vp_in (v4 + 1) L0 ∧ vp_in (v4 + 2) L0 ∧ 4 ≤ bc ∧ 24 ≤ bs ∧ f_X0_post v1 (xs (ix (v4 + 1))) (xs (ix (v4 + 2))) v3 M (fun x227 M226 => vp_in (v4 + 1) L0 ∧ vp_in (v4 + 2) L0 ∧ kd M226 v2 = some (.inl 10) ∧ f_X10_post v2 (xs (ix (v4 + 1))) (xs (ix (v4 + 2))) M226 (fun x232 M231 => kd M231 v2 = some (.inl 10) ∧ f_X10_thrown v2 M231 (fun x235 M234 => if x235 = x227 then if x227 = 0 then inA M234 v3 2 0 ∧ if (lg_cmp (jv M234 v3 (ix 0)) (x232.toInt64)) = 0 then P23 v1 v2 v3 (v4 + 6) (bc - 4) (bs - 24) M234 else False else P23 v1 v2 v3 (v4 + 6) (bc - 4) (bs - 24) M234 else False))) else if ((xs (ix v4)) &&& 63) = 13 then vp_in (v4 + 1) L0 ∧ vp_in (v4 + 2) L0 ∧ 2 ≤ bc ∧ 12 ≤ bs ∧ f_X0_watch v1 (xs (ix (v4 + 1))) (xs (ix (v4 + 2))) v3 M (fun x246 M245 => vp_in (v4 + 1) L0 ∧ vp_in (v4 + 2) L0 ∧ kd M245 v2 = some (.inl 10) ∧ f_X10_watch v2 (xs (ix (v4 + 1))) (xs (ix (v4 + 2))) M245 (fun x251 M250 => kd M250 v2 = some (.inl 10) ∧ f_X10_thrown v2 M250 (fun x254 M253 => if x254 = x246 then if x246 = 0 then inA M253 v3 2 0 ∧ if (lg_cmp (jv M253 v3 (ix 0)) (x251.toInt64)) = 0 then P23 v1 v2 v3 (v4 + 6) (bc - 2) (bs - 12) M253 else False else P23 v1 v2 v3 (v4 + 6) (bc - 2) (bs - 12) M253 else False))) else if ((xs (ix v4)) &&& 63) = 14 then vp_in (v4 + 1) L0 ∧ 2 ≤ bc ∧ 12 ≤ bs ∧ f_X0_open v1 (xs (ix (v4 + 1))) v3 M (fun x264 M263 => vp_in (v4 + 1) L0 ∧ kd M263 v2 = some (.inl 10) ∧ f_X10_open v2 (xs (ix (v4 + 1))) M263 (fun x268 M267 => kd M267 v2 = some (.inl 10) ∧ f_X10_thrown v2 M267 (fun x271 M270 => if x271 = x264 then if x264 = 0 then inA M270 v3 2 0 ∧ if (lg_cmp (jv M270 v3 (ix 0)) (x268.toInt64)) = 0 then P23 v1 v2 v3 (v4 + 6) (bc - 2) (bs - 12) M270 else False else P23 v1 v2 v3 (v4 + 6) (bc - 2) (bs - 12) M270 else False))) else if ((xs (ix v4)) &&& 63) = 15 then vp_in (v4 + 1) L0 ∧ 1 ≤ bc ∧ 6 ≤ bs ∧ f_X0_years v1 (xs (ix (v4 + 1))) v3 M (fun x281 M280 => vp_in (v4 + 1) L0 ∧ kd M280 v2 = some (.inl 10) ∧ f_X10_years v2 (xs (ix (v4 + 1))) M280 (fun x285 M284 => kd M284 v2 = some (.inl 10) ∧ f_X10_thrown v2 M284 (fun x288 M287 => if x288 = x281 then if x281 = 0 then inA M287 v3 2 0 ∧ if (lg_cmp (jv M287 v3 (ix 0)) (x285.toInt64)) = 0 then P23 v1 v2 v3 (v4 + 6) (bc - 1) (bs - 6) M287 else False else P23 v1 v2 v3 (v4 + 6) (bc - 1) (bs - 6) M287 else False))) else if ((xs (ix v4)) &&& 63) = 16 then vp_in (v4 + 1) L0 ∧ vp_in (v4 + 2) L0 ∧ vp_in (v4 + 3) L0 ∧ vp_in (v4 + 4) L0 ∧ 5 ≤ bc ∧ 30 ≤ bs ∧ f_X0_throwsFor v1 (xs (ix (v4 + 1))) (xs (ix (v4 + 2))) (xs (ix (v4 + 3))) (xs (ix (v4 + 4))) v3 M (fun x301 M300 => vp_in (v4 + 1) L0 ∧ vp_in (v4 + 2) L0 ∧ vp_in (v4 + 3) L0 ∧ vp_in (v4 + 4) L0 ∧ kd M300 v2 = some (.inl 10) ∧ f_X10_throwsFor v2 (xs (ix (v4 + 1))) (xs (ix (v4 + 2))) (xs (ix (v4 + 3))) (xs (ix (v4 + 4))) M300 (fun x308 M307 => kd M307 v2 = some (.inl 10) ∧ f_X10_thrown v2 M307 (fun x311 M310 => if x311 = x301 then if x301 = 0 then inA M310 v3 2 0 ∧ if (lg_cmp (jv M310 v3 (ix 0)) (x308.toInt64)) = 0 then P23 v1 v2 v3 (v4 + 6) (bc - 5) (bs - 30) M310 else False else P23 v1 v2 v3 (v4 + 6) (bc - 5) (bs - 30) M310 else False))) else if ((xs (ix v4)) &&& 63) = 17 then vp_in (v4 + 1) L0 ∧ vp_in (v4 + 2) L0 ∧ 2 ≤ bc ∧ 12 ≤ bs ∧ f_X0_latest v1 (xs (ix (v4 + 1))) (xs (ix (v4 + 2))) v3 M (fun x322 M321 => vp_in (v4 + 1) L0 ∧ vp_in (v4 + 2) L0 ∧ kd M321 v2 = some (.inl 10) ∧ f_X10_latest v2 (xs (ix (v4 + 1))) (xs (ix (v4 + 2))) M321 (fun x327 M326 => kd M326 v2 = some (.inl 10) ∧ f_X10_thrown v2 M326 (fun x330 M329 => if x330 = x322 then if x322 = 0 then inA M329 v3 2 0 ∧ if (lg_cmp (jv M329 v3 (ix 0)) (x327.toInt64)) = 0 then P23 v1 v2 v3 (v4 + 6) (bc - 2) (bs - 12) M329 else False else P23 v1 v2 v3 (v4 + 6) (bc - 2) (bs - 12) M329 else False))) else if ((xs (ix v4)) &&& 63) = 18 then vp_in (v4 + 1) L0 ∧ vp_in (v4 + 2) L0 ∧ 2 ≤ bc ∧ 12 ≤ bs ∧ f_X0_hut v1 (xs (ix (v4 + 1))) (xs (ix (v4 + 2))) v3 M (fun x341 M340 => vp_in (v4 + 1) L0 ∧ vp_in (v4 + 2) L0 ∧ kd M340 v2 = some (.inl 10) ∧ f_X10_hut v2 (xs (ix (v4 + 1))) (xs (ix (v4 + 2))) M340 (fun x346 M345 => kd M345 v2 = some (.inl 10) ∧ f_X10_thrown v2 M345 (fun x349 M348 => if x349 = x341 then if x341 = 0 then inA M348 v3 2 0 ∧ if (lg_cmp (jv M348 v3 (ix 0)) (x346.toInt64)) = 0 then P23 v1 v2 v3 (v4 + 6) (bc - 2) (bs - 12) M348 else False else P23 v1 v2 v3 (v4 + 6) (bc - 2) (bs - 12) M348 else False))) else if ((xs (ix v4)) &&& 63) = 19 then vp_in (v4 + 1) L0 ∧ vp_in (v4 + 2) L0 ∧ 2 ≤ bc ∧ 12 ≤ bs ∧ f_X0_without v1 (xs (ix (v4 + 1))) (xs (ix (v4 + 2))) v3 M (fun x360 M359 => vp_in (v4 + 1) L0 ∧ vp_in (v4 + 2) L0 ∧ kd M359 v2 = some (.inl 10) ∧ f_X10_without v2 (xs (ix (v4 + 1))) (xs (ix (v4 + 2))) M359 (fun x365 M364 => kd M364 v2 = some (.inl 10) ∧ f_X10_thrown v2 M364 (fun x368 M367 => if x368 = x360 then if x360 = 0 then inA M367 v3 2 0 ∧ if (lg_cmp (jv M367 v3 (ix 0)) (x365.toInt64)) = 0 then P23 v1 v2 v3 (v4 + 6) (bc - 2) (bs - 12) M367 else False else P23 v1 v2 v3 (v4 + 6) (bc - 2) (bs - 12) M367 else False))) else if ((xs (ix v4)) &&& 63) = 20 then vp_in (v4 + 1) L0 ∧ 1 ≤ bc ∧ 6 ≤ bs ∧ f_X0_moved v1 (xs (ix (v4 + 1))) v3 M (fun x378 M377 => vp_in (v4 + 1) L0 ∧ kd M377 v2 = some (.inl 10) ∧ f_X10_moved v2 (xs (ix (v4 + 1))) M377 (fun x382 M381 => kd M381 v2 = some (.inl 10) ∧ f_X10_thrown v2 M381 (fun x385 M384 => if x385 = x378 then if x378 = 0 then inA M384 v3 2 0 ∧ if (lg_cmp (jv M384 v3 (ix 0)) (x382.toInt64)) = 0 then P23 v1 v2 v3 (v4 + 6) (bc - 1) (bs - 6) M384 else False else P23 v1 v2 v3 (v4 + 6) (bc - 1) (bs - 6) M384 else False))) else if ((xs (ix v4)) &&& 63) = 21 then kd M v1 = some (.inl 1) ∧ f_X1_lost v1 M (fun x393 M392 => kd M392 v2 = some (.inl 10) ∧ f_X10_lost v2 M392 (fun x396 M395 => if x393 = x396 then P23 v1 v2 v3 (v4 + 6) bc bs M395 else False)) else if ((xs (ix v4)) &&& 63) = 22 then vp_in (v4 + 1) L0 ∧ if (xs (ix (v4 + 1))) = 0 then P1547 v1 v2 v3 v4 0 v1 bc bs M else P1547 v1 v2 v3 v4 1 v1 bc bs M else if ((xs (ix v4)) &&& 63) = 23 then vp_in (v4 + 1) L0 ∧ 1 ≤ bc ∧ 6 ≤ bs ∧ f_X0_passes v1 (xs (ix (v4 + 1))) v3 M (fun x406 M405 => vp_in (v4 + 1) L0 ∧ kd M405 v2 = some (.inl 10) ∧ f_X10_passes v2 (xs (ix (v4 + 1))) M405 (fun x410 M409 => kd M409 v2 = some (.inl 10) ∧ f_X10_thrown v2 M409 (fun x413 M412 => if x413 = x406 then if x406 = 0 then inA M412 v3 2 0 ∧ if (lg_cmp (jv M412 v3 (ix 0)) (x410.toInt64)) = 0 then P23 v1 v2 v3 (v4 + 6) (bc - 1) (bs - 6) M412 else False else P23 v1 v2 v3 (v4 + 6) (bc - 1) (bs - 6) M412 else False))) else if ((xs (ix v4)) &&& 63) = 24 then vp_in (v4 + 1) L0 ∧ vp_in (v4 + 2) L0 ∧ vp_in (v4 + 3) L0 ∧ 3 ≤ bc ∧ 18 ≤ bs ∧ f_X0_writers v1 (xs (ix (v4 + 1))) (xs (ix (v4 + 2))) (xs (ix (v4 + 3))) v3 M (fun x425 M424 => vp_in (v4 + 1) L0 ∧ vp_in (v4 + 2) L0 ∧ vp_in (v4 + 3) L0 ∧ kd M424 v2 = some (.inl 10) ∧ f_X10_writers v2 (xs (ix (v4 + 1))) (xs (ix (v4 + 2))) (xs (ix (v4 + 3))) M424 (fun x431 M430 => kd M430 v2 = some (.inl 10) ∧ f_X10_thrown v2 M430 (fun x434 M433 => if x434 = x425 then if x425 = 0 then inA M433 v3 2 0 ∧ if (lg_cmp (jv M433 v3 (ix 0)) (x431.toInt64)) = 0 then P23 v1 v2 v3 (v4 + 6) (bc - 3) (bs - 18) M433 else False else P23 v1 v2 v3 (v4 + 6) (bc - 3) (bs - 18) M433 else False))) else if ((xs (ix v4)) &&& 63) = 25 then vp_in (v4 + 1) L0 ∧ vp_in (v4 + 2) L0 ∧ vp_in (v4 + 3) L0 ∧ vp_in (v4 + 4) L0 ∧ 4 ≤ bc ∧ 24 ≤ bs ∧ f_X0_wrote v1 (xs (ix (v4 + 1))) (xs (ix (v4 + 2))) (xs (ix (v4 + 3))) (xs (ix (v4 + 4))) v3 M (fun x447 M446 => vp_in (v4 + 1) L0 ∧ vp_in (v4 + 2) L0 ∧ vp_in (v4 + 3) L0 ∧ vp_in (v4 + 4) L0 ∧ kd M446 v2 = some (.inl 10) ∧ f_X10_wrote v2 (xs (ix (v4 + 1))) (xs (ix (v4 + 2))) (xs (ix (v4 + 3))) (xs (ix (v4 + 4))) M446 (fun x454 M453 => kd M453 v2 = some (.inl 10) ∧ f_X10_thrown v2 M453 (fun x457 M456 => if x457 = x447 then if x447 = 0 then inA M456 v3 2 0 ∧ if (lg_cmp (jv M456 v3 (ix 0)) (x454.toInt64)) = 0 then P23 v1 v2 v3 (v4 + 6) (bc - 4) (bs - 24) M456 else False else P23 v1 v2 v3 (v4 + 6) (bc - 4) (bs - 24) M456 else False))) else if ((xs (ix v4)) &&& 63) = 26 then vp_in (v4 + 1) L0 ∧ vp_in (v4 + 2) L0 ∧ 2 ≤ bc ∧ 12 ≤ bs ∧ f_X0_table v1 (xs (ix (v4 + 1))) (xs (ix (v4 + 2))) v3 M (fun x468 M467 => vp_in (v4 + 1) L0 ∧ vp_in (v4 + 2) L0 ∧ kd M467 v2 = some (.inl 10) ∧ f_X10_table v2 (xs (ix (v4 + 1))) (xs (ix (v4 + 2))) M467 (fun x473 M472 => kd M472 v2 = some (.inl 10) ∧ f_X10_thrown v2 M472 (fun x476 M475 => if x476 = x468 then if x468 = 0 then inA M475 v3 2 0 ∧ if (lg_cmp (jv M475 v3 (ix 0)) (x473.toInt64)) = 0 then P23 v1 v2 v3 (v4 + 6) (bc - 2) (bs - 12) M475 else False else P23 v1 v2 v3 (v4 + 6) (bc - 2) (bs - 12) M475 else False))) else if ((xs (ix v4)) &&& 63) = 27 then vp_in (v4 + 1) L0 ∧ vp_in (v4 + 2) L0 ∧ vp_in (v4 + 3) L0 ∧ 2 ≤ bc ∧ 12 ≤ bs ∧ f_X0_apart v1 (xs (ix (v4 + 1))) (xs (ix (v4 + 2))) (xs (ix (v4 + 3))) v3 M (fun x488 M487 => vp_in (v4 + 1) L0 ∧ vp_in (v4 + 2) L0 ∧ vp_in (v4 + 3) L0 ∧ kd M487 v2 = some (.inl 10) ∧ f_X10_apart v2 (xs (ix (v4 + 1))) (xs (ix (v4 + 2))) (xs (ix (v4 + 3))) M487 (fun x494 M493 => kd M493 v2 = some (.inl 10) ∧ f_X10_thrown v2 M493 (fun x497 M496 => if x497 = x488 then if x488 = 0 then inA M496 v3 2 0 ∧ if x494 = 0 then P1947 v1 v2 v3 v4 0 (jv M496 v3 (ix 0)) (bc - 2) (bs - 12) M496 else P1947 v1 v2 v3 v4 1 (jv M496 v3 (ix 0)) (bc - 2) (bs - 12) M496 else P23 v1 v2 v3 (v4 + 6) (bc - 2) (bs - 12) M496 else False))) else if ((xs (ix v4)) &&& 63) = 28 then kd M v1 = some (.inl 1) ∧ f_X1_poles v1 M (fun x505 M504 => kd M504 v2 = some (.inl 10) ∧ f_X10_poles v2 M504 (fun x508 M507 => if x505 = x508 then P23 v1 v2 v3 (v4 + 6) bc bs M507 else False)) else if ((xs (ix v4)) &&& 63) = 29 then 1 ≤ bc ∧ 6 ≤ bs ∧ f_X0_fit v1 v3 M (fun x514 M513 => kd M513 v2 = some (.inl 10) ∧ f_X10_fit v2 M513 (fun x517 M516 => kd M516 v2 = some (.inl 10) ∧ f_X10_thrown v2 M516 (fun x520 M519 => if x520 = x514 then if x514 = 0 then inA M519 v3 2 0 ∧ if (lg_cmp (jv M519 v3 (ix 0)) (x517.toInt64)) = 0 then P23 v1 v2 v3 (v4 + 6) (bc - 1) (bs - 6) M519 else False else P23 v1 v2 v3 (v4 + 6) (bc - 1) (bs - 6) M519 else False))) else if ((xs (ix v4)) &&& 63) = 30 then vp_in (v4 + 1) L0 ∧ vp_in (v4 + 2) L0 ∧ vp_in (v4 + 3) L0 ∧ if (xs (ix (v4 + 3))) = 0 then P2040 v1 v2 v3 v4 0 (xs (ix (v4 + 2))) (xs (ix (v4 + 1))) v1 bc bs M else P2040 v1 v2 v3 v4 1 (xs (ix (v4 + 2))) (xs (ix (v4 + 1))) v1 bc bs M else if ((xs (ix v4)) &&& 63) = 31 then vp_in (v4 + 1) L0 ∧ vp_in (v4 + 2) L0 ∧ vp_in (v4 + 3) L0 ∧ 3 ≤ bc ∧ 18 ≤ bs ∧ f_X0_chain v1 (xs (ix (v4 + 1))) (xs (ix (v4 + 2))) (xs (ix (v4 + 3))) v3 M (fun x537 M536 => vp_in (v4 + 1) L0 ∧ vp_in (v4 + 2) L0 ∧ vp_in (v4 + 3) L0 ∧ kd M536 v2 = some (.inl 10) ∧ f_X10_chain v2 (xs (ix (v4 + 1))) (xs (ix (v4 + 2))) (xs (ix (v4 + 3))) M536 (fun x543 M542 => kd M542 v2 = some (.inl 10) ∧ f_X10_thrown v2 M542 (fun x546 M545 => if x546 = x537 then if x537 = 0 then inA M545 v3 2 0 ∧ if (lg_cmp (jv M545 v3 (ix 0)) (x543.toInt64)) = 0 then P23 v1 v2 v3 (v4 + 6) (bc - 3) (bs - 18) M545 else False else P23 v1 v2 v3 (v4 + 6) (bc - 3) (bs - 18) M545 else False))) else if ((xs (ix v4)) &&& 63) = 32 then vp_in (v4 + 1) L0 ∧ vp_in (v4 + 2) L0 ∧ 2 ≤ bc ∧ 12 ≤ bs ∧ f_X0_reached v1 (xs (ix (v4 + 1))) (xs (ix (v4 + 2))) v3 M (fun x557 M556 => vp_in (v4 + 1) L0 ∧ vp_in (v4 + 2) L0 ∧ kd M556 v2 = some (.inl 10) ∧ f_X10_reached v2 (xs (ix (v4 + 1))) (xs (ix (v4 + 2))) M556 (fun x562 M561 => kd M561 v2 = some (.inl 10) ∧ f_X10_thrown v2 M561 (fun x565 M564 => if x565 = x557 then if x557 = 0 then inA M564 v3 2 0 ∧ if (lg_cmp (jv M564 v3 (ix 0)) (x562.toInt64)) = 0 then P23 v1 v2 v3 (v4 + 6) (bc - 2) (bs - 12) M564 else False else P23 v1 v2 v3 (v4 + 6) (bc - 2) (bs - 12) M564 else False))) else if ((xs (ix v4)) &&& 63) = 33 then vp_in (v4 + 1) L0 ∧ vp_in (v4 + 2) L0 ∧ if (xs (ix (v4 + 2))) = 0 then P2278 v1 v2 v3 v4 0 (xs (ix (v4 + 1))) v1 bc bs M else P2278 v1 v2 v3 v4 1 (xs (ix (v4 + 1))) v1 bc bs M else if ((xs (ix v4)) &&& 63) = 34 then vp_in (v4 + 1) L0 ∧ vp_in (v4 + 2) L0 ∧ if (xs (ix (v4 + 2))) = 0 then P2362 v1 v2 v3 v4 0 (xs (ix (v4 + 1))) v1 bc bs M else P2362 v1 v2 v3 v4 1 (xs (ix (v4 + 1))) v1 bc bs M else if ((xs (ix v4)) &&& 63) = 35 then vp_in (v4 + 1) L0 ∧ vp_in (v4 + 2) L0 ∧ 3 ≤ bc ∧ 18 ≤ bs ∧ f_X0_meeting v1 (xs (ix (v4 + 1))) (xs (ix (v4 + 2))) v3 M (fun x584 M583 => vp_in (v4 + 1) L0 ∧ vp_in (v4 + 2) L0 ∧ kd M583 v2 = some (.inl 10) ∧ f_X10_meeting v2 (xs (ix (v4 + 1))) (xs (ix (v4 + 2))) M583 (fun x589 M588 => kd M588 v2 = some (.inl 10) ∧ f_X10_thrown v2 M588 (fun x592 M591 => if x592 = x584 then if x584 = 0 then inA M591 v3 2 0 ∧ if (lg_cmp (jv M591 v3 (ix 0)) (x589.toInt64)) = 0 then P23 v1 v2 v3 (v4 + 6) (bc - 3) (bs - 18) M591 else False else P23 v1 v2 v3 (v4 + 6) (bc - 3) (bs - 18) M591 else False))) else if ((xs (ix v4)) &&& 63) = 36 then vp_in (v4 + 1) L0 ∧ 1 ≤ bc ∧ 6 ≤ bs ∧ f_X0_outs v1 (xs (ix (v4 + 1))) v3 M (fun x602 M601 => vp_in (v4 + 1) L0 ∧ kd M601 v2 = some (.inl 10) ∧ f_X10_outs v2 (xs (ix (v4 + 1))) M601 (fun x606 M605 => kd M605 v2 = some (.inl 10) ∧ f_X10_thrown v2 M605 (fun x609 M608 => if x609 = x602 then if x602 = 0 then inA M608 v3 2 0 ∧ if (lg_cmp (jv M608 v3 (ix 0)) (x606.toInt64)) = 0 then P23 v1 v2 v3 (v4 + 6) (bc - 1) (bs - 6) M608 else False else P23 v1 v2 v3 (v4 + 6) (bc - 1) (bs - 6) M608 else False))) else if ((xs (ix v4)) &&& 63) = 37 then vp_in (v4 + 1) L0 ∧ kd M v1 = some (.inl 1) ∧ f_X1_order v1 (xs (ix (v4 + 1))) M (fun x618 M617 => vp_in (v4 + 1) L0 ∧ kd M617 v2 = some (.inl 10) ∧ f_X10_order v2 (xs (ix (v4 + 1))) M617 (fun x622 M621 => if x618 = x622 then P23 v1 v2 v3 (v4 + 6) bc bs M621 else False)) else if ((xs (ix v4)) &&& 63) = 38 then vp_in (v4 + 1) L0 ∧ vp_in (v4 + 2) L0 ∧ if (xs (ix (v4 + 2))) = 0 then P2595 v1 v2 v3 v4 0 (xs (ix (v4 + 1))) v1 bc bs M else P2595 v1 v2 v3 v4 1 (xs (ix (v4 + 1))) v1 bc bs M else if ((xs (ix v4)) &&& 63) = 39 then vp_in (v4 + 1) L0 ∧ vp_in (v4 + 2) L0 ∧ 2 ≤ bc ∧ 12 ≤ bs ∧ f_X0_range v1 (xs (ix (v4 + 1))) (xs (ix (v4 + 2))) v3 M (fun x634 M633 => vp_in (v4 + 1) L0 ∧ vp_in (v4 + 2) L0 ∧ kd M633 v2 = some (.inl 10) ∧ f_X10_range v2 (xs (ix (v4 + 1))) (xs (ix (v4 + 2))) M633 (fun x639 M638 => kd M638 v2 = some (.inl 10) ∧ f_X10_thrown v2 M638 (fun x642 M641 => if x642 = x634 then if x634 = 0 then inA M641 v3 2 0 ∧ if (lg_cmp (jv M641 v3 (ix 0)) (x639.toInt64)) = 0 then P23 v1 v2 v3 (v4 + 6) (bc - 2) (bs - 12) M641 else False else P23 v1 v2 v3 (v4 + 6) (bc - 2) (bs - 12) M641 else False))) else if ((xs (ix v4)) &&& 63) = 40 then vp_in (v4 + 1) L0 ∧ vp_in (v4 + 2) L0 ∧ 2 ≤ bc ∧ 12 ≤ bs ∧ f_X0_swiftest v1 (xs (ix (v4 + 1))) (xs (ix (v4 + 2))) v3 M (fun x653 M652 => vp_in (v4 + 1) L0 ∧ vp_in (v4 + 2) L0 ∧ kd M652 v2 = some (.inl 10) ∧ f_X10_swiftest v2 (xs (ix (v4 + 1))) (xs (ix (v4 + 2))) M652 (fun x658 M657 => kd M657 v2 = some (.inl 10) ∧ f_X10_thrown v2 M657 (fun x661 M660 => if x661 = x653 then if x653 = 0 then inA M660 v3 2 0 ∧ if (lg_cmp (jv M660 v3 (ix 0)) (x658.toInt64)) = 0 then P23 v1 v2 v3 (v4 + 6) (bc - 2) (bs - 12) M660 else False else P23 v1 v2 v3 (v4 + 6) (bc - 2) (bs - 12) M660 else False))) else if ((xs (ix v4)) &&& 63) = 41 then vp_in (v4 + 1) L0 ∧ 1 ≤ bc ∧ 6 ≤ bs ∧ f_X0_bare v1 (xs (ix (v4 + 1))) v3 M (fun x671 M670 => vp_in (v4 + 1) L0 ∧ kd M670 v2 = some (.inl 10) ∧ f_X10_bare v2 (xs (ix (v4 + 1))) M670 (fun x675 M674 => kd M674 v2 = some (.inl 10) ∧ f_X10_thrown v2 M674 (fun x678 M677 => if x678 = x671 then if x671 = 0 then inA M677 v3 2 0 ∧ if (lg_cmp (jv M677 v3 (ix 0)) (x675.toInt64)) = 0 then P23 v1 v2 v3 (v4 + 6) (bc - 1) (bs - 6) M677 else False else P23 v1 v2 v3 (v4 + 6) (bc - 1) (bs - 6) M677 else False))) else if ((xs (ix v4)) &&& 63) = 42 then vp_in (v4 + 1) L0 ∧ vp_in (v4 + 2) L0 ∧ 1 ≤ bc ∧ 6 ≤ bs ∧ f_X0_log v1 (xs (ix (v4 + 1))) (xs (ix (v4 + 2))) v3 M (fun x689 M688 => vp_in (v4 + 1) L0 ∧ vp_in (v4 + 2) L0 ∧ kd M688 v2 = some (.inl 10) ∧ f_X10_log v2 (xs (ix (v4 + 1))) (xs (ix (v4 + 2))) M688 (fun x694 M693 => kd M693 v2 = some (.inl 10) ∧ f_X10_thrown v2 M693 (fun x697 M696 => if x697 = x689 then if x689 = 0 then inA M696 v3 2 0 ∧ if (lg_cmp (jv M696 v3 (ix 0)) (x694.toInt64)) = 0 then P23 v1 v2 v3 (v4 + 6) (bc - 1) (bs - 6) M696 else False else P23 v1 v2 v3 (v4 + 6) (bc - 1) (bs - 6) M696 else False))) else if ((xs (ix v4)) &&& 63) = 43 then kd M v1 = some (.inl 1) ∧ f_X1_undo v1 M (fun x705 M704 => kd M704 v2 = some (.inl 10) ∧ f_X10_undo v2 M704 (fun x708 M707 => if x705 = x708 then P23 v1 v2 v3 (v4 + 6) bc bs M707 else False)) else if ((xs (ix v4)) &&& 63) = 44 then kd M v1 = some (.inl 1) ∧ f_X1_image v1 M (fun M712 => kd M712 v2 = some (.inl 10) ∧ f_X10_image v2 M712 (fun M714 => P23 v1 v2 v3 (v4 + 6) bc bs M714)) else if ((xs (ix v4)) &&& 63) = 45 then kd M v1 = some (.inl 1) ∧ f_X1_back v1 M (fun x718 M717 => kd M717 v2 = some (.inl 10) ∧ f_X10_back v2 M717 (fun x721 M720 => if x718 = x721 then P23 v1 v2 v3 (v4 + 6) bc bs M720 else False)) else if ((xs (ix v4)) &&& 63) = 46 then vp_in (v4 + 1) L0 ∧ kd M v1 = some (.inl 1) ∧ f_X1_count v1 (xs (ix (v4 + 1))) M (fun x727 M726 => vp_in (v4 + 1) L0 ∧ kd M726 v2 = some (.inl 10) ∧ f_X10_count v2 (xs (ix (v4 + 1))) M726 (fun x731 M730 => if x727 = x731 then P23 v1 v2 v3 (v4 + 6) bc bs M730 else False)) else P23 v1 v2 v3 (v4 + 6) bc bs M) → P23 v1 v2 v3 v4 bc bs M) →
  (∀ (v1 : Nat) (v2 : Nat) (v3 : Nat) (v4 : Int32) (s0 : Int32) (s1 : Nat) (bc bs : Nat) (M : gM), (kd M s1 = some (.inl 1) ∧ f_X1_market s1 s0 M (fun x735 M734 => vp_in (v4 + 1) L0 ∧ if (xs (ix (v4 + 1))) = 0 then P1565 v1 v2 v3 v4 0 v2 x735 bc bs M734 else P1565 v1 v2 v3 v4 1 v2 x735 bc bs M734)) → P1547 v1 v2 v3 v4 s0 s1 bc bs M) →
  (∀ (v1 : Nat) (v2 : Nat) (v3 : Nat) (v4 : Int32) (s0 : Int32) (s1 : Nat) (s2 : Int32) (bc bs : Nat) (M : gM), (kd M s1 = some (.inl 10) ∧ f_X10_market s1 s0 M (fun x740 M739 => if s2 = x740 then P23 v1 v2 v3 (v4 + 6) bc bs M739 else False)) → P1565 v1 v2 v3 v4 s0 s1 s2 bc bs M) →
  (∀ (v1 : Nat) (v2 : Nat) (v3 : Nat) (v4 : Int32) (s0 : Int64) (s1 : Int64) (bc bs : Nat) (M : gM), (if (lg_cmp s1 s0) = 0 then P23 v1 v2 v3 (v4 + 6) bc bs M else False) → P1947 v1 v2 v3 v4 s0 s1 bc bs M) →
  (∀ (v1 : Nat) (v2 : Nat) (v3 : Nat) (v4 : Int32) (s0 : Int32) (s1 : Int32) (s2 : Int32) (s3 : Nat) (bc bs : Nat) (M : gM), (3 ≤ bc ∧ 18 ≤ bs ∧ f_X0_soonest s3 s2 s1 s0 v3 M (fun x746 M745 => vp_in (v4 + 1) L0 ∧ vp_in (v4 + 2) L0 ∧ vp_in (v4 + 3) L0 ∧ if (xs (ix (v4 + 3))) = 0 then P2073 v1 v2 v3 v4 x746 0 (xs (ix (v4 + 2))) (xs (ix (v4 + 1))) v2 (bc - 3) (bs - 18) M745 else P2073 v1 v2 v3 v4 x746 1 (xs (ix (v4 + 2))) (xs (ix (v4 + 1))) v2 (bc - 3) (bs - 18) M745)) → P2040 v1 v2 v3 v4 s0 s1 s2 s3 bc bs M) →
  (∀ (v1 : Nat) (v2 : Nat) (v3 : Nat) (v4 : Int32) (v5 : Int32) (s0 : Int32) (s1 : Int32) (s2 : Int32) (s3 : Nat) (bc bs : Nat) (M : gM), (kd M s3 = some (.inl 10) ∧ f_X10_soonest s3 s2 s1 s0 M (fun x753 M752 => kd M752 v2 = some (.inl 10) ∧ f_X10_thrown v2 M752 (fun x756 M755 => if x756 = v5 then if v5 = 0 then inA M755 v3 2 0 ∧ if (lg_cmp (jv M755 v3 (ix 0)) (x753.toInt64)) = 0 then P23 v1 v2 v3 (v4 + 6) bc bs M755 else False else P23 v1 v2 v3 (v4 + 6) bc bs M755 else False))) → P2073 v1 v2 v3 v4 v5 s0 s1 s2 s3 bc bs M) →
  (∀ (v1 : Nat) (v2 : Nat) (v3 : Nat) (v4 : Int32) (s0 : Int32) (s1 : Int32) (s2 : Nat) (bc bs : Nat) (M : gM), (1 ≤ bc ∧ 6 ≤ bs ∧ f_X0_thieves s2 s1 s0 v3 M (fun x764 M763 => vp_in (v4 + 1) L0 ∧ vp_in (v4 + 2) L0 ∧ if (xs (ix (v4 + 2))) = 0 then P2305 v1 v2 v3 v4 x764 0 (xs (ix (v4 + 1))) v2 (bc - 1) (bs - 6) M763 else P2305 v1 v2 v3 v4 x764 1 (xs (ix (v4 + 1))) v2 (bc - 1) (bs - 6) M763)) → P2278 v1 v2 v3 v4 s0 s1 s2 bc bs M) →
  (∀ (v1 : Nat) (v2 : Nat) (v3 : Nat) (v4 : Int32) (v5 : Int32) (s0 : Int32) (s1 : Int32) (s2 : Nat) (bc bs : Nat) (M : gM), (kd M s2 = some (.inl 10) ∧ f_X10_thieves s2 s1 s0 M (fun x770 M769 => kd M769 v2 = some (.inl 10) ∧ f_X10_thrown v2 M769 (fun x773 M772 => if x773 = v5 then if v5 = 0 then inA M772 v3 2 0 ∧ if (lg_cmp (jv M772 v3 (ix 0)) (x770.toInt64)) = 0 then P23 v1 v2 v3 (v4 + 6) bc bs M772 else False else P23 v1 v2 v3 (v4 + 6) bc bs M772 else False))) → P2305 v1 v2 v3 v4 v5 s0 s1 s2 bc bs M) →
  (∀ (v1 : Nat) (v2 : Nat) (v3 : Nat) (v4 : Int32) (s0 : Int32) (s1 : Int32) (s2 : Nat) (bc bs : Nat) (M : gM), (1 ≤ bc ∧ 6 ≤ bs ∧ f_X0_watchman s2 s1 s0 v3 M (fun x781 M780 => vp_in (v4 + 1) L0 ∧ vp_in (v4 + 2) L0 ∧ if (xs (ix (v4 + 2))) = 0 then P2389 v1 v2 v3 v4 x781 0 (xs (ix (v4 + 1))) v2 (bc - 1) (bs - 6) M780 else P2389 v1 v2 v3 v4 x781 1 (xs (ix (v4 + 1))) v2 (bc - 1) (bs - 6) M780)) → P2362 v1 v2 v3 v4 s0 s1 s2 bc bs M) →
  (∀ (v1 : Nat) (v2 : Nat) (v3 : Nat) (v4 : Int32) (v5 : Int32) (s0 : Int32) (s1 : Int32) (s2 : Nat) (bc bs : Nat) (M : gM), (kd M s2 = some (.inl 10) ∧ f_X10_watchman s2 s1 s0 M (fun x787 M786 => kd M786 v2 = some (.inl 10) ∧ f_X10_thrown v2 M786 (fun x790 M789 => if x790 = v5 then if v5 = 0 then inA M789 v3 2 0 ∧ if (lg_cmp (jv M789 v3 (ix 0)) (x787.toInt64)) = 0 then P23 v1 v2 v3 (v4 + 6) bc bs M789 else False else P23 v1 v2 v3 (v4 + 6) bc bs M789 else False))) → P2389 v1 v2 v3 v4 v5 s0 s1 s2 bc bs M) →
  (∀ (v1 : Nat) (v2 : Nat) (v3 : Nat) (v4 : Int32) (s0 : Int32) (s1 : Int32) (s2 : Nat) (bc bs : Nat) (M : gM), (1 ≤ bc ∧ 6 ≤ bs ∧ f_X0_streams s2 s1 s0 v3 M (fun x798 M797 => vp_in (v4 + 1) L0 ∧ vp_in (v4 + 2) L0 ∧ if (xs (ix (v4 + 2))) = 0 then P2622 v1 v2 v3 v4 x798 0 (xs (ix (v4 + 1))) v2 (bc - 1) (bs - 6) M797 else P2622 v1 v2 v3 v4 x798 1 (xs (ix (v4 + 1))) v2 (bc - 1) (bs - 6) M797)) → P2595 v1 v2 v3 v4 s0 s1 s2 bc bs M) →
  (∀ (v1 : Nat) (v2 : Nat) (v3 : Nat) (v4 : Int32) (v5 : Int32) (s0 : Int32) (s1 : Int32) (s2 : Nat) (bc bs : Nat) (M : gM), (kd M s2 = some (.inl 10) ∧ f_X10_streams s2 s1 s0 M (fun x804 M803 => kd M803 v2 = some (.inl 10) ∧ f_X10_thrown v2 M803 (fun x807 M806 => if x807 = v5 then if v5 = 0 then inA M806 v3 2 0 ∧ if (lg_cmp (jv M806 v3 (ix 0)) (x804.toInt64)) = 0 then P23 v1 v2 v3 (v4 + 6) bc bs M806 else False else P23 v1 v2 v3 (v4 + 6) bc bs M806 else False))) → P2622 v1 v2 v3 v4 v5 s0 s1 s2 bc bs M) →
  1 ≤ bc ∧ 16 ≤ bs ∧ ∀ M3, M3 = sN M (.inl 1) → ∃ c4 z5, c4 ≤ bc - 1 ∧ z5 ≤ bs - 16 ∧ f_X1_init (sz M) c4 z5 M3 (fun M8 => 1 ≤ (bc - 1) - c4 ∧ 39 ≤ (bs - 16) - z5 ∧ ∀ M11, M11 = sN M8 (.inl 10) → 18 ≤ ((bc - 1) - c4) - 1 ∧ 48286 ≤ ((bs - 16) - z5) - 39 ∧ f_X10_init (sz M8) M11 (fun M14 => 1 ≤ (((bc - 1) - c4) - 1) - 18 ∧ 1 ≤ (((bs - 16) - z5) - 39) - 48286 ∧ ∀ M17, M17 = sN M14 (.inr (2, 1)) → P23 (sz M) (sz M8) (sz M14) 0 (((((bc - 1) - c4) - 1) - 18) - 1) (((((bs - 16) - z5) - 39) - 48286) - 1) M17))
set_option maxHeartbeats 4000000 in
theorem m_X0_law_ {l : Launch} (hl : l.stackTraces = false) {G : gG} {X : gX} {b L0 bc bs FR LO : Nat} {xs : Nat → Int32} {M : gM} (h : hX l G X code 7 "GlacierMailLaw" FR LO) (hF0 : 34 ≤ FR) (hL0 : 797 ≤ LO) (hsc : hSc G X b L0 xs) (hend : hLE X b) (hf : f_X0_law_ L0 xs bc bs M) : V l G X bc bs M 0 [(0, .ref b)] [] := by
  refine (show V l G X bc bs M 0 [(0, .ref b)] [] from ?_)
  have hf := hf
  show V l G X bc bs M 0 [(0, .ref b)] []
  have hf := hf
    (fun v1 v2 v3 v4 bc bs M => V l G X bc bs M 23 [(0, .ref b), (1, .ref v1), (2, .ref v2), (3, .ref v3), (4, .int v4)] [])
    (fun v1 v2 v3 v4 s0 s1 bc bs M => V l G X bc bs M 1547 [(0, .ref b), (1, .ref v1), (2, .ref v2), (3, .ref v3), (4, .int v4)] [.int s0, .ref s1])
    (fun v1 v2 v3 v4 s0 s1 s2 bc bs M => V l G X bc bs M 1565 [(0, .ref b), (1, .ref v1), (2, .ref v2), (3, .ref v3), (4, .int v4)] [.int s0, .ref s1, .int s2])
    (fun v1 v2 v3 v4 s0 s1 bc bs M => V l G X bc bs M 1947 [(0, .ref b), (1, .ref v1), (2, .ref v2), (3, .ref v3), (4, .int v4)] [.long s0, .long s1])
    (fun v1 v2 v3 v4 s0 s1 s2 s3 bc bs M => V l G X bc bs M 2040 [(0, .ref b), (1, .ref v1), (2, .ref v2), (3, .ref v3), (4, .int v4)] [.int s0, .int s1, .int s2, .ref s3])
    (fun v1 v2 v3 v4 v5 s0 s1 s2 s3 bc bs M => V l G X bc bs M 2073 [(0, .ref b), (1, .ref v1), (2, .ref v2), (3, .ref v3), (4, .int v4), (5, .int v5)] [.int s0, .int s1, .int s2, .ref s3])
    (fun v1 v2 v3 v4 s0 s1 s2 bc bs M => V l G X bc bs M 2278 [(0, .ref b), (1, .ref v1), (2, .ref v2), (3, .ref v3), (4, .int v4)] [.int s0, .int s1, .ref s2])
    (fun v1 v2 v3 v4 v5 s0 s1 s2 bc bs M => V l G X bc bs M 2305 [(0, .ref b), (1, .ref v1), (2, .ref v2), (3, .ref v3), (4, .int v4), (5, .int v5)] [.int s0, .int s1, .ref s2])
    (fun v1 v2 v3 v4 s0 s1 s2 bc bs M => V l G X bc bs M 2362 [(0, .ref b), (1, .ref v1), (2, .ref v2), (3, .ref v3), (4, .int v4)] [.int s0, .int s1, .ref s2])
    (fun v1 v2 v3 v4 v5 s0 s1 s2 bc bs M => V l G X bc bs M 2389 [(0, .ref b), (1, .ref v1), (2, .ref v2), (3, .ref v3), (4, .int v4), (5, .int v5)] [.int s0, .int s1, .ref s2])
    (fun v1 v2 v3 v4 s0 s1 s2 bc bs M => V l G X bc bs M 2595 [(0, .ref b), (1, .ref v1), (2, .ref v2), (3, .ref v3), (4, .int v4)] [.int s0, .int s1, .ref s2])
    (fun v1 v2 v3 v4 v5 s0 s1 s2 bc bs M => V l G X bc bs M 2622 [(0, .ref b), (1, .ref v1), (2, .ref v2), (3, .ref v3), (4, .int v4), (5, .int v5)] [.int s0, .int s1, .ref s2])
    (by
      intro v1 v2 v3 v4 bc bs M hf
      show V l G X bc bs M 23 [(0, .ref b), (1, .ref v1), (2, .ref v2), (3, .ref v3), (4, .int v4)] []
      refine r_iload h 4 dL_law_23 rfl ?_
      refine r_aload_n h 0 dL_law_25 rfl rfl ?_
      refine r_slen h hsc dL_law_26 ?_
      refine r_bipush (v := 6) h dL_law_27 (by decide) ?_
      refine r_isub h dL_law_29 ?_
      refine r_icmp_gt (tgt := 2986) h dL_law_30 (by decide) (fun c18 => ?_) (fun c18 => ?_)
      · have hf := ite_t c18 hf
        refine r_iconst (v := 1) h dL_law_2986 (by decide) ?_
        exact r_lend h hsc hend dL_law_2987
      · have hf := ite_f c18 hf
        refine r_aload_n h 0 dL_law_33 rfl rfl ?_
        refine r_iload h 4 dL_law_34 rfl ?_
        obtain ⟨j19, hf⟩ := hf
        refine r_sld h hsc dL_law_36 j19 ?_
        refine r_bipush (v := 63) h dL_law_37 (by decide) ?_
        refine r_iand h dL_law_39 ?_
        by_cases c20 : ((xs (ix v4)) &&& 63) = 0
        · have hf := ite_t c20 hf
          refine r_tableIn (off := 204) (tgt := 244) h dL_law_40 (by rw [c20]; decide) (by rw [c20]; decide) (by rw [c20]; rfl) (by decide) ?_
          refine r_aload_n h 1 dL_law_244 rfl rfl ?_
          refine r_aload_n h 0 dL_law_245 rfl rfl ?_
          refine r_iload h 4 dL_law_246 rfl ?_
          refine r_iconst (v := 1) h dL_law_248 (by decide) ?_
          refine r_iadd h dL_law_249 ?_
          obtain ⟨j21, hf⟩ := hf
          refine r_sld h hsc dL_law_250 j21 ?_
          refine r_aload_n h 0 dL_law_251 rfl rfl ?_
          refine r_iload h 4 dL_law_252 rfl ?_
          refine r_iconst (v := 2) h dL_law_254 (by decide) ?_
          refine r_iadd h dL_law_255 ?_
          obtain ⟨j22, hf⟩ := hf
          refine r_sld h hsc dL_law_256 j22 ?_
          refine r_aload_n h 0 dL_law_257 rfl rfl ?_
          refine r_iload h 4 dL_law_258 rfl ?_
          refine r_iconst (v := 3) h dL_law_260 (by decide) ?_
          refine r_iadd h dL_law_261 ?_
          obtain ⟨j23, hf⟩ := hf
          refine r_sld h hsc dL_law_262 j23 ?_
          refine r_aload_n h 0 dL_law_263 rfl rfl ?_
          refine r_iload h 4 dL_law_264 rfl ?_
          refine r_iconst (v := 4) h dL_law_266 (by decide) ?_
          refine r_iadd h dL_law_267 ?_
          obtain ⟨j24, hf⟩ := hf
          refine r_sld h hsc dL_law_268 j24 ?_
          refine r_aload_n h 0 dL_law_269 rfl rfl ?_
          refine r_iload h 4 dL_law_270 rfl ?_
          refine r_iconst (v := 5) h dL_law_272 (by decide) ?_
          refine r_iadd h dL_law_273 ?_
          obtain ⟨j25, hf⟩ := hf
          refine r_sld h hsc dL_law_274 j25 ?_
          obtain ⟨k26, hf⟩ := hf
          refine c622 hl h dL_law_275 k26 hf (Nat.le_of_ble_eq_true rfl) (by omega) (by omega) (fun x28 M27 hf => ?_)
          refine r_aload_n h 2 dL_law_278 rfl rfl ?_
          refine r_aload_n h 0 dL_law_279 rfl rfl ?_
          refine r_iload h 4 dL_law_280 rfl ?_
          refine r_iconst (v := 1) h dL_law_282 (by decide) ?_
          refine r_iadd h dL_law_283 ?_
          obtain ⟨j29, hf⟩ := hf
          refine r_sld h hsc dL_law_284 j29 ?_
          refine r_aload_n h 0 dL_law_285 rfl rfl ?_
          refine r_iload h 4 dL_law_286 rfl ?_
          refine r_iconst (v := 2) h dL_law_288 (by decide) ?_
          refine r_iadd h dL_law_289 ?_
          obtain ⟨j30, hf⟩ := hf
          refine r_sld h hsc dL_law_290 j30 ?_
          refine r_aload_n h 0 dL_law_291 rfl rfl ?_
          refine r_iload h 4 dL_law_292 rfl ?_
          refine r_iconst (v := 3) h dL_law_294 (by decide) ?_
          refine r_iadd h dL_law_295 ?_
          obtain ⟨j31, hf⟩ := hf
          refine r_sld h hsc dL_law_296 j31 ?_
          refine r_aload_n h 0 dL_law_297 rfl rfl ?_
          refine r_iload h 4 dL_law_298 rfl ?_
          refine r_iconst (v := 4) h dL_law_300 (by decide) ?_
          refine r_iadd h dL_law_301 ?_
          obtain ⟨j32, hf⟩ := hf
          refine r_sld h hsc dL_law_302 j32 ?_
          refine r_aload_n h 0 dL_law_303 rfl rfl ?_
          refine r_iload h 4 dL_law_304 rfl ?_
          refine r_iconst (v := 5) h dL_law_306 (by decide) ?_
          refine r_iadd h dL_law_307 ?_
          obtain ⟨j33, hf⟩ := hf
          refine r_sld h hsc dL_law_308 j33 ?_
          obtain ⟨k34, hf⟩ := hf
          refine c1727 hl h dL_law_309 k34 hf (Nat.le_of_ble_eq_true rfl) (by omega) (by omega) (fun x36 M35 hf => ?_)
          refine r_icmp_eq (tgt := 2980) h dL_law_312 (by decide) (fun c37 => ?_) (fun c37 => ?_)
          · have hf := ite_t c37 hf
            refine r_iinc (v := v4 + 6) (lv' := [(4, .int (v4 + 6)), (0, .ref b), (1, .ref v1), (2, .ref v2), (3, .ref v3)]) h 4 dL_law_2980 rfl rfl (by decide) rfl ?_
            refine r_goto (tgt := 23) h dL_law_2983 (by decide) ?_
            exact V.sub [1, 2, 3, 4, 0] rfl hf
          · have hf := ite_f c37 hf
            refine r_iconst (v := 0) h dL_law_315 (by decide) ?_
            exact hf.elim
        have hf := ite_f c20 hf
        by_cases c38 : ((xs (ix v4)) &&& 63) = 1
        · have hf := ite_t c38 hf
          refine r_tableIn (off := 277) (tgt := 317) h dL_law_40 (by rw [c38]; decide) (by rw [c38]; decide) (by rw [c38]; rfl) (by decide) ?_
          refine r_aload_n h 1 dL_law_317 rfl rfl ?_
          refine r_aload_n h 0 dL_law_318 rfl rfl ?_
          refine r_iload h 4 dL_law_319 rfl ?_
          refine r_iconst (v := 1) h dL_law_321 (by decide) ?_
          refine r_iadd h dL_law_322 ?_
          obtain ⟨j39, hf⟩ := hf
          refine r_sld h hsc dL_law_323 j39 ?_
          obtain ⟨k40, hf⟩ := hf
          refine c630 hl h dL_law_324 k40 hf (Nat.le_of_ble_eq_true rfl) (by omega) (by omega) (fun x42 M41 hf => ?_)
          refine r_aload_n h 2 dL_law_327 rfl rfl ?_
          refine r_aload_n h 0 dL_law_328 rfl rfl ?_
          refine r_iload h 4 dL_law_329 rfl ?_
          refine r_iconst (v := 1) h dL_law_331 (by decide) ?_
          refine r_iadd h dL_law_332 ?_
          obtain ⟨j43, hf⟩ := hf
          refine r_sld h hsc dL_law_333 j43 ?_
          obtain ⟨k44, hf⟩ := hf
          refine c1731 hl h dL_law_334 k44 hf (Nat.le_of_ble_eq_true rfl) (by omega) (by omega) (fun x46 M45 hf => ?_)
          refine r_icmp_eq (tgt := 2980) h dL_law_337 (by decide) (fun c47 => ?_) (fun c47 => ?_)
          · have hf := ite_t c47 hf
            refine r_iinc (v := v4 + 6) (lv' := [(4, .int (v4 + 6)), (0, .ref b), (1, .ref v1), (2, .ref v2), (3, .ref v3)]) h 4 dL_law_2980 rfl rfl (by decide) rfl ?_
            refine r_goto (tgt := 23) h dL_law_2983 (by decide) ?_
            exact V.sub [1, 2, 3, 4, 0] rfl hf
          · have hf := ite_f c47 hf
            refine r_iconst (v := 0) h dL_law_340 (by decide) ?_
            exact hf.elim
        have hf := ite_f c38 hf
        by_cases c48 : ((xs (ix v4)) &&& 63) = 2
        · have hf := ite_t c48 hf
          refine r_tableIn (off := 302) (tgt := 342) h dL_law_40 (by rw [c48]; decide) (by rw [c48]; decide) (by rw [c48]; rfl) (by decide) ?_
          refine r_aload_n h 1 dL_law_342 rfl rfl ?_
          refine r_aload_n h 3 dL_law_343 rfl rfl ?_
          obtain ⟨h49, h50, hf⟩ := hf
          refine c819 hl h dL_law_344 hf (Nat.le_of_ble_eq_true rfl) (by omega) (by omega) h49 h50 (fun x52 M51 hf => ?_)
          refine r_istore (lv' := [(5, .int x52), (0, .ref b), (1, .ref v1), (2, .ref v2), (3, .ref v3), (4, .int v4)]) h dL_law_347 (by decide) rfl ?_
          refine r_aload_n h 3 dL_law_349 rfl rfl ?_
          obtain ⟨k53, hf⟩ := hf
          refine c1739 hl h dL_law_350 k53 hf (Nat.le_of_ble_eq_true rfl) (by omega) (by omega) (fun x55 M54 hf => ?_)
          refine r_istore (lv' := [(6, .int x55), (5, .int x52), (0, .ref b), (1, .ref v1), (2, .ref v2), (3, .ref v3), (4, .int v4)]) h dL_law_353 (by decide) rfl ?_
          refine r_aload_n h 4 dL_law_355 rfl rfl ?_
          obtain ⟨k56, hf⟩ := hf
          refine c1582 hl h dL_law_356 k56 hf (Nat.le_of_ble_eq_true rfl) (by omega) (by omega) (fun x58 M57 hf => ?_)
          refine r_iload h 1 dL_law_359 rfl ?_
          refine r_icmp_eq (tgt := 366) h dL_law_361 (by decide) (fun c59 => ?_) (fun c59 => ?_)
          · have hf := ite_t c59 hf
            refine r_iload h 1 dL_law_366 rfl ?_
            refine r_if_ne (tgt := 383) h dL_law_368 (by decide) (fun c60 => ?_) (fun c60 => ?_)
            · have hf := ite_f c60 hf
              refine r_goto (tgt := 2980) h dL_law_383 (by decide) ?_
              refine r_iinc (v := v4 + 6) (lv' := [(4, .int (v4 + 6)), (6, .int x55), (5, .int x52), (0, .ref b), (1, .ref v1), (2, .ref v2), (3, .ref v3)]) h 6 dL_law_2980 rfl rfl (by decide) rfl ?_
              refine r_goto (tgt := 23) h dL_law_2983 (by decide) ?_
              exact V.sub [3, 4, 5, 6, 0] rfl hf
            · have hf := ite_t c60 hf
              refine r_aload_n h 5 dL_law_371 rfl rfl ?_
              refine r_iconst (v := 0) h dL_law_372 (by decide) ?_
              obtain ⟨j61, hf⟩ := hf
              refine r_laload h dL_law_373 j61 ?_
              refine r_iload h 0 dL_law_374 rfl ?_
              refine r_i2l h dL_law_376 ?_
              refine r_lcmp h dL_law_377 ?_
              refine r_if_eq (tgt := 383) h dL_law_378 (by decide) (fun c62 => ?_) (fun c62 => ?_)
              · have hf := ite_t c62 hf
                refine r_goto (tgt := 2980) h dL_law_383 (by decide) ?_
                refine r_iinc (v := v4 + 6) (lv' := [(4, .int (v4 + 6)), (6, .int x55), (5, .int x52), (0, .ref b), (1, .ref v1), (2, .ref v2), (3, .ref v3)]) h 6 dL_law_2980 rfl rfl (by decide) rfl ?_
                refine r_goto (tgt := 23) h dL_law_2983 (by decide) ?_
                exact V.sub [3, 4, 5, 6, 0] rfl hf
              · have hf := ite_f c62 hf
                refine r_iconst (v := 0) h dL_law_381 (by decide) ?_
                exact hf.elim
          · have hf := ite_f c59 hf
            refine r_iconst (v := 0) h dL_law_364 (by decide) ?_
            exact hf.elim
        have hf := ite_f c48 hf
        by_cases c63 : ((xs (ix v4)) &&& 63) = 3
        · have hf := ite_t c63 hf
          refine r_tableIn (off := 346) (tgt := 386) h dL_law_40 (by rw [c63]; decide) (by rw [c63]; decide) (by rw [c63]; rfl) (by decide) ?_
          refine r_aload_n h 1 dL_law_386 rfl rfl ?_
          refine r_aload_n h 3 dL_law_387 rfl rfl ?_
          obtain ⟨c64, z65, h66, h67, hf⟩ := hf
          refine c1005 hl h dL_law_388 hf (Nat.le_of_ble_eq_true rfl) (by omega) (by omega) h66 h67 (fun x69 M68 hf => ?_)
          refine r_istore (lv' := [(5, .int x69), (0, .ref b), (1, .ref v1), (2, .ref v2), (3, .ref v3), (4, .int v4)]) h dL_law_391 (by decide) rfl ?_
          refine r_aload_n h 3 dL_law_393 rfl rfl ?_
          obtain ⟨k70, hf⟩ := hf
          refine c1933 hl h dL_law_394 k70 hf (Nat.le_of_ble_eq_true rfl) (by omega) (by omega) (fun x72 M71 hf => ?_)
          refine r_istore (lv' := [(6, .int x72), (5, .int x69), (0, .ref b), (1, .ref v1), (2, .ref v2), (3, .ref v3), (4, .int v4)]) h dL_law_397 (by decide) rfl ?_
          refine r_aload_n h 4 dL_law_399 rfl rfl ?_
          obtain ⟨k73, hf⟩ := hf
          refine c1582 hl h dL_law_400 k73 hf (Nat.le_of_ble_eq_true rfl) (by omega) (by omega) (fun x75 M74 hf => ?_)
          refine r_iload h 1 dL_law_403 rfl ?_
          refine r_icmp_eq (tgt := 410) h dL_law_405 (by decide) (fun c76 => ?_) (fun c76 => ?_)
          · have hf := ite_t c76 hf
            refine r_iload h 1 dL_law_410 rfl ?_
            refine r_if_ne (tgt := 427) h dL_law_412 (by decide) (fun c77 => ?_) (fun c77 => ?_)
            · have hf := ite_f c77 hf
              refine r_goto (tgt := 2980) h dL_law_427 (by decide) ?_
              refine r_iinc (v := v4 + 6) (lv' := [(4, .int (v4 + 6)), (6, .int x72), (5, .int x69), (0, .ref b), (1, .ref v1), (2, .ref v2), (3, .ref v3)]) h 6 dL_law_2980 rfl rfl (by decide) rfl ?_
              refine r_goto (tgt := 23) h dL_law_2983 (by decide) ?_
              exact V.sub [3, 4, 5, 6, 0] rfl hf
            · have hf := ite_t c77 hf
              refine r_aload_n h 5 dL_law_415 rfl rfl ?_
              refine r_iconst (v := 0) h dL_law_416 (by decide) ?_
              obtain ⟨j78, hf⟩ := hf
              refine r_laload h dL_law_417 j78 ?_
              refine r_iload h 0 dL_law_418 rfl ?_
              refine r_i2l h dL_law_420 ?_
              refine r_lcmp h dL_law_421 ?_
              refine r_if_eq (tgt := 427) h dL_law_422 (by decide) (fun c79 => ?_) (fun c79 => ?_)
              · have hf := ite_t c79 hf
                refine r_goto (tgt := 2980) h dL_law_427 (by decide) ?_
                refine r_iinc (v := v4 + 6) (lv' := [(4, .int (v4 + 6)), (6, .int x72), (5, .int x69), (0, .ref b), (1, .ref v1), (2, .ref v2), (3, .ref v3)]) h 6 dL_law_2980 rfl rfl (by decide) rfl ?_
                refine r_goto (tgt := 23) h dL_law_2983 (by decide) ?_
                exact V.sub [3, 4, 5, 6, 0] rfl hf
              · have hf := ite_f c79 hf
                refine r_iconst (v := 0) h dL_law_425 (by decide) ?_
                exact hf.elim
          · have hf := ite_f c76 hf
            refine r_iconst (v := 0) h dL_law_408 (by decide) ?_
            exact hf.elim
        have hf := ite_f c63 hf
        by_cases c80 : ((xs (ix v4)) &&& 63) = 4
        · have hf := ite_t c80 hf
          refine r_tableIn (off := 390) (tgt := 430) h dL_law_40 (by rw [c80]; decide) (by rw [c80]; decide) (by rw [c80]; rfl) (by decide) ?_
          refine r_aload_n h 1 dL_law_430 rfl rfl ?_
          obtain ⟨k81, hf⟩ := hf
          refine c637 hl h dL_law_431 k81 hf (Nat.le_of_ble_eq_true rfl) (by omega) (by omega) (fun x83 M82 hf => ?_)
          refine r_aload_n h 2 dL_law_434 rfl rfl ?_
          obtain ⟨k84, hf⟩ := hf
          refine c1735 hl h dL_law_435 k84 hf (Nat.le_of_ble_eq_true rfl) (by omega) (by omega) (fun x86 M85 hf => ?_)
          refine r_icmp_eq (tgt := 2980) h dL_law_438 (by decide) (fun c87 => ?_) (fun c87 => ?_)
          · have hf := ite_t c87 hf
            refine r_iinc (v := v4 + 6) (lv' := [(4, .int (v4 + 6)), (0, .ref b), (1, .ref v1), (2, .ref v2), (3, .ref v3)]) h 4 dL_law_2980 rfl rfl (by decide) rfl ?_
            refine r_goto (tgt := 23) h dL_law_2983 (by decide) ?_
            exact V.sub [1, 2, 3, 4, 0] rfl hf
          · have hf := ite_f c87 hf
            refine r_iconst (v := 0) h dL_law_441 (by decide) ?_
            exact hf.elim
        have hf := ite_f c80 hf
        by_cases c88 : ((xs (ix v4)) &&& 63) = 5
        · have hf := ite_t c88 hf
          refine r_tableIn (off := 403) (tgt := 443) h dL_law_40 (by rw [c88]; decide) (by rw [c88]; decide) (by rw [c88]; rfl) (by decide) ?_
          refine r_aload_n h 1 dL_law_443 rfl rfl ?_
          refine r_aload_n h 0 dL_law_444 rfl rfl ?_
          refine r_iload h 4 dL_law_445 rfl ?_
          refine r_iconst (v := 1) h dL_law_447 (by decide) ?_
          refine r_iadd h dL_law_448 ?_
          obtain ⟨j89, hf⟩ := hf
          refine r_sld h hsc dL_law_449 j89 ?_
          refine r_aload_n h 3 dL_law_450 rfl rfl ?_
          obtain ⟨h90, h91, hf⟩ := hf
          refine c1137 hl h dL_law_451 hf (Nat.le_of_ble_eq_true rfl) (by omega) (by omega) h90 h91 (fun x93 M92 hf => ?_)
          refine r_istore (lv' := [(5, .int x93), (0, .ref b), (1, .ref v1), (2, .ref v2), (3, .ref v3), (4, .int v4)]) h dL_law_454 (by decide) rfl ?_
          refine r_aload_n h 3 dL_law_456 rfl rfl ?_
          refine r_aload_n h 1 dL_law_457 rfl rfl ?_
          refine r_iload h 5 dL_law_458 rfl ?_
          refine r_iconst (v := 1) h dL_law_460 (by decide) ?_
          refine r_iadd h dL_law_461 ?_
          obtain ⟨j94, hf⟩ := hf
          refine r_sld h hsc dL_law_462 j94 ?_
          obtain ⟨k95, hf⟩ := hf
          refine c1937 hl h dL_law_463 k95 hf (Nat.le_of_ble_eq_true rfl) (by omega) (by omega) (fun x97 M96 hf => ?_)
          refine r_istore (lv' := [(6, .int x97), (5, .int x93), (0, .ref b), (1, .ref v1), (2, .ref v2), (3, .ref v3), (4, .int v4)]) h dL_law_466 (by decide) rfl ?_
          refine r_aload_n h 4 dL_law_468 rfl rfl ?_
          obtain ⟨k98, hf⟩ := hf
          refine c1582 hl h dL_law_469 k98 hf (Nat.le_of_ble_eq_true rfl) (by omega) (by omega) (fun x100 M99 hf => ?_)
          refine r_iload h 1 dL_law_472 rfl ?_
          refine r_icmp_eq (tgt := 479) h dL_law_474 (by decide) (fun c101 => ?_) (fun c101 => ?_)
          · have hf := ite_t c101 hf
            refine r_iload h 1 dL_law_479 rfl ?_
            refine r_if_ne (tgt := 496) h dL_law_481 (by decide) (fun c102 => ?_) (fun c102 => ?_)
            · have hf := ite_f c102 hf
              refine r_goto (tgt := 2980) h dL_law_496 (by decide) ?_
              refine r_iinc (v := v4 + 6) (lv' := [(4, .int (v4 + 6)), (6, .int x97), (5, .int x93), (0, .ref b), (1, .ref v1), (2, .ref v2), (3, .ref v3)]) h 6 dL_law_2980 rfl rfl (by decide) rfl ?_
              refine r_goto (tgt := 23) h dL_law_2983 (by decide) ?_
              exact V.sub [3, 4, 5, 6, 0] rfl hf
            · have hf := ite_t c102 hf
              refine r_aload_n h 5 dL_law_484 rfl rfl ?_
              refine r_iconst (v := 0) h dL_law_485 (by decide) ?_
              obtain ⟨j103, hf⟩ := hf
              refine r_laload h dL_law_486 j103 ?_
              refine r_iload h 0 dL_law_487 rfl ?_
              refine r_i2l h dL_law_489 ?_
              refine r_lcmp h dL_law_490 ?_
              refine r_if_eq (tgt := 496) h dL_law_491 (by decide) (fun c104 => ?_) (fun c104 => ?_)
              · have hf := ite_t c104 hf
                refine r_goto (tgt := 2980) h dL_law_496 (by decide) ?_
                refine r_iinc (v := v4 + 6) (lv' := [(4, .int (v4 + 6)), (6, .int x97), (5, .int x93), (0, .ref b), (1, .ref v1), (2, .ref v2), (3, .ref v3)]) h 6 dL_law_2980 rfl rfl (by decide) rfl ?_
                refine r_goto (tgt := 23) h dL_law_2983 (by decide) ?_
                exact V.sub [3, 4, 5, 6, 0] rfl hf
              · have hf := ite_f c104 hf
                refine r_iconst (v := 0) h dL_law_494 (by decide) ?_
                exact hf.elim
          · have hf := ite_f c101 hf
            refine r_iconst (v := 0) h dL_law_477 (by decide) ?_
            exact hf.elim
        have hf := ite_f c88 hf
        by_cases c105 : ((xs (ix v4)) &&& 63) = 6
        · have hf := ite_t c105 hf
          refine r_tableIn (off := 459) (tgt := 499) h dL_law_40 (by rw [c105]; decide) (by rw [c105]; decide) (by rw [c105]; rfl) (by decide) ?_
          refine r_aload_n h 1 dL_law_499 rfl rfl ?_
          refine r_aload_n h 0 dL_law_500 rfl rfl ?_
          refine r_iload h 4 dL_law_501 rfl ?_
          refine r_iconst (v := 1) h dL_law_503 (by decide) ?_
          refine r_iadd h dL_law_504 ?_
          obtain ⟨j106, hf⟩ := hf
          refine r_sld h hsc dL_law_505 j106 ?_
          refine r_aload_n h 0 dL_law_506 rfl rfl ?_
          refine r_iload h 4 dL_law_507 rfl ?_
          refine r_iconst (v := 2) h dL_law_509 (by decide) ?_
          refine r_iadd h dL_law_510 ?_
          obtain ⟨j107, hf⟩ := hf
          refine r_sld h hsc dL_law_511 j107 ?_
          refine r_aload_n h 3 dL_law_512 rfl rfl ?_
          obtain ⟨h108, h109, hf⟩ := hf
          refine c1150 hl h dL_law_513 hf (Nat.le_of_ble_eq_true rfl) (by omega) (by omega) h108 h109 (fun x111 M110 hf => ?_)
          refine r_istore (lv' := [(5, .int x111), (0, .ref b), (1, .ref v1), (2, .ref v2), (3, .ref v3), (4, .int v4)]) h dL_law_516 (by decide) rfl ?_
          refine r_aload_n h 3 dL_law_518 rfl rfl ?_
          refine r_aload_n h 1 dL_law_519 rfl rfl ?_
          refine r_iload h 5 dL_law_520 rfl ?_
          refine r_iconst (v := 1) h dL_law_522 (by decide) ?_
          refine r_iadd h dL_law_523 ?_
          obtain ⟨j112, hf⟩ := hf
          refine r_sld h hsc dL_law_524 j112 ?_
          refine r_aload_n h 1 dL_law_525 rfl rfl ?_
          refine r_iload h 5 dL_law_526 rfl ?_
          refine r_iconst (v := 2) h dL_law_528 (by decide) ?_
          refine r_iadd h dL_law_529 ?_
          obtain ⟨j113, hf⟩ := hf
          refine r_sld h hsc dL_law_530 j113 ?_
          obtain ⟨k114, hf⟩ := hf
          refine c1947 hl h dL_law_531 k114 hf (Nat.le_of_ble_eq_true rfl) (by omega) (by omega) (fun x116 M115 hf => ?_)
          refine r_istore (lv' := [(6, .int x116), (5, .int x111), (0, .ref b), (1, .ref v1), (2, .ref v2), (3, .ref v3), (4, .int v4)]) h dL_law_534 (by decide) rfl ?_
          refine r_aload_n h 4 dL_law_536 rfl rfl ?_
          obtain ⟨k117, hf⟩ := hf
          refine c1582 hl h dL_law_537 k117 hf (Nat.le_of_ble_eq_true rfl) (by omega) (by omega) (fun x119 M118 hf => ?_)
          refine r_iload h 1 dL_law_540 rfl ?_
          refine r_icmp_eq (tgt := 547) h dL_law_542 (by decide) (fun c120 => ?_) (fun c120 => ?_)
          · have hf := ite_t c120 hf
            refine r_iload h 1 dL_law_547 rfl ?_
            refine r_if_ne (tgt := 564) h dL_law_549 (by decide) (fun c121 => ?_) (fun c121 => ?_)
            · have hf := ite_f c121 hf
              refine r_goto (tgt := 2980) h dL_law_564 (by decide) ?_
              refine r_iinc (v := v4 + 6) (lv' := [(4, .int (v4 + 6)), (6, .int x116), (5, .int x111), (0, .ref b), (1, .ref v1), (2, .ref v2), (3, .ref v3)]) h 6 dL_law_2980 rfl rfl (by decide) rfl ?_
              refine r_goto (tgt := 23) h dL_law_2983 (by decide) ?_
              exact V.sub [3, 4, 5, 6, 0] rfl hf
            · have hf := ite_t c121 hf
              refine r_aload_n h 5 dL_law_552 rfl rfl ?_
              refine r_iconst (v := 0) h dL_law_553 (by decide) ?_
              obtain ⟨j122, hf⟩ := hf
              refine r_laload h dL_law_554 j122 ?_
              refine r_iload h 0 dL_law_555 rfl ?_
              refine r_i2l h dL_law_557 ?_
              refine r_lcmp h dL_law_558 ?_
              refine r_if_eq (tgt := 564) h dL_law_559 (by decide) (fun c123 => ?_) (fun c123 => ?_)
              · have hf := ite_t c123 hf
                refine r_goto (tgt := 2980) h dL_law_564 (by decide) ?_
                refine r_iinc (v := v4 + 6) (lv' := [(4, .int (v4 + 6)), (6, .int x116), (5, .int x111), (0, .ref b), (1, .ref v1), (2, .ref v2), (3, .ref v3)]) h 6 dL_law_2980 rfl rfl (by decide) rfl ?_
                refine r_goto (tgt := 23) h dL_law_2983 (by decide) ?_
                exact V.sub [3, 4, 5, 6, 0] rfl hf
              · have hf := ite_f c123 hf
                refine r_iconst (v := 0) h dL_law_562 (by decide) ?_
                exact hf.elim
          · have hf := ite_f c120 hf
            refine r_iconst (v := 0) h dL_law_545 (by decide) ?_
            exact hf.elim
        have hf := ite_f c105 hf
        by_cases c124 : ((xs (ix v4)) &&& 63) = 7
        · have hf := ite_t c124 hf
          refine r_tableIn (off := 527) (tgt := 567) h dL_law_40 (by rw [c124]; decide) (by rw [c124]; decide) (by rw [c124]; rfl) (by decide) ?_
          refine r_aload_n h 1 dL_law_567 rfl rfl ?_
          refine r_aload_n h 0 dL_law_568 rfl rfl ?_
          refine r_iload h 4 dL_law_569 rfl ?_
          refine r_iconst (v := 1) h dL_law_571 (by decide) ?_
          refine r_iadd h dL_law_572 ?_
          obtain ⟨j125, hf⟩ := hf
          refine r_sld h hsc dL_law_573 j125 ?_
          refine r_aload_n h 0 dL_law_574 rfl rfl ?_
          refine r_iload h 4 dL_law_575 rfl ?_
          refine r_iconst (v := 2) h dL_law_577 (by decide) ?_
          refine r_iadd h dL_law_578 ?_
          obtain ⟨j126, hf⟩ := hf
          refine r_sld h hsc dL_law_579 j126 ?_
          refine r_aload_n h 0 dL_law_580 rfl rfl ?_
          refine r_iload h 4 dL_law_581 rfl ?_
          refine r_iconst (v := 3) h dL_law_583 (by decide) ?_
          refine r_iadd h dL_law_584 ?_
          obtain ⟨j127, hf⟩ := hf
          refine r_sld h hsc dL_law_585 j127 ?_
          refine r_aload_n h 3 dL_law_586 rfl rfl ?_
          obtain ⟨h128, h129, hf⟩ := hf
          refine c1216 hl h dL_law_587 hf (Nat.le_of_ble_eq_true rfl) (by omega) (by omega) h128 h129 (fun x131 M130 hf => ?_)
          refine r_istore (lv' := [(5, .int x131), (0, .ref b), (1, .ref v1), (2, .ref v2), (3, .ref v3), (4, .int v4)]) h dL_law_590 (by decide) rfl ?_
          refine r_aload_n h 3 dL_law_592 rfl rfl ?_
          refine r_aload_n h 1 dL_law_593 rfl rfl ?_
          refine r_iload h 5 dL_law_594 rfl ?_
          refine r_iconst (v := 1) h dL_law_596 (by decide) ?_
          refine r_iadd h dL_law_597 ?_
          obtain ⟨j132, hf⟩ := hf
          refine r_sld h hsc dL_law_598 j132 ?_
          refine r_aload_n h 1 dL_law_599 rfl rfl ?_
          refine r_iload h 5 dL_law_600 rfl ?_
          refine r_iconst (v := 2) h dL_law_602 (by decide) ?_
          refine r_iadd h dL_law_603 ?_
          obtain ⟨j133, hf⟩ := hf
          refine r_sld h hsc dL_law_604 j133 ?_
          refine r_aload_n h 1 dL_law_605 rfl rfl ?_
          refine r_iload h 5 dL_law_606 rfl ?_
          refine r_iconst (v := 3) h dL_law_608 (by decide) ?_
          refine r_iadd h dL_law_609 ?_
          obtain ⟨j134, hf⟩ := hf
          refine r_sld h hsc dL_law_610 j134 ?_
          obtain ⟨k135, hf⟩ := hf
          refine c1963 hl h dL_law_611 k135 hf (Nat.le_of_ble_eq_true rfl) (by omega) (by omega) (fun x137 M136 hf => ?_)
          refine r_istore (lv' := [(6, .int x137), (5, .int x131), (0, .ref b), (1, .ref v1), (2, .ref v2), (3, .ref v3), (4, .int v4)]) h dL_law_614 (by decide) rfl ?_
          refine r_aload_n h 4 dL_law_616 rfl rfl ?_
          obtain ⟨k138, hf⟩ := hf
          refine c1582 hl h dL_law_617 k138 hf (Nat.le_of_ble_eq_true rfl) (by omega) (by omega) (fun x140 M139 hf => ?_)
          refine r_iload h 1 dL_law_620 rfl ?_
          refine r_icmp_eq (tgt := 627) h dL_law_622 (by decide) (fun c141 => ?_) (fun c141 => ?_)
          · have hf := ite_t c141 hf
            refine r_iload h 1 dL_law_627 rfl ?_
            refine r_if_ne (tgt := 644) h dL_law_629 (by decide) (fun c142 => ?_) (fun c142 => ?_)
            · have hf := ite_f c142 hf
              refine r_goto (tgt := 2980) h dL_law_644 (by decide) ?_
              refine r_iinc (v := v4 + 6) (lv' := [(4, .int (v4 + 6)), (6, .int x137), (5, .int x131), (0, .ref b), (1, .ref v1), (2, .ref v2), (3, .ref v3)]) h 6 dL_law_2980 rfl rfl (by decide) rfl ?_
              refine r_goto (tgt := 23) h dL_law_2983 (by decide) ?_
              exact V.sub [3, 4, 5, 6, 0] rfl hf
            · have hf := ite_t c142 hf
              refine r_aload_n h 5 dL_law_632 rfl rfl ?_
              refine r_iconst (v := 0) h dL_law_633 (by decide) ?_
              obtain ⟨j143, hf⟩ := hf
              refine r_laload h dL_law_634 j143 ?_
              refine r_iload h 0 dL_law_635 rfl ?_
              refine r_i2l h dL_law_637 ?_
              refine r_lcmp h dL_law_638 ?_
              refine r_if_eq (tgt := 644) h dL_law_639 (by decide) (fun c144 => ?_) (fun c144 => ?_)
              · have hf := ite_t c144 hf
                refine r_goto (tgt := 2980) h dL_law_644 (by decide) ?_
                refine r_iinc (v := v4 + 6) (lv' := [(4, .int (v4 + 6)), (6, .int x137), (5, .int x131), (0, .ref b), (1, .ref v1), (2, .ref v2), (3, .ref v3)]) h 6 dL_law_2980 rfl rfl (by decide) rfl ?_
                refine r_goto (tgt := 23) h dL_law_2983 (by decide) ?_
                exact V.sub [3, 4, 5, 6, 0] rfl hf
              · have hf := ite_f c144 hf
                refine r_iconst (v := 0) h dL_law_642 (by decide) ?_
                exact hf.elim
          · have hf := ite_f c141 hf
            refine r_iconst (v := 0) h dL_law_625 (by decide) ?_
            exact hf.elim
        have hf := ite_f c124 hf
        by_cases c145 : ((xs (ix v4)) &&& 63) = 8
        · have hf := ite_t c145 hf
          refine r_tableIn (off := 607) (tgt := 647) h dL_law_40 (by rw [c145]; decide) (by rw [c145]; decide) (by rw [c145]; rfl) (by decide) ?_
          refine r_aload_n h 1 dL_law_647 rfl rfl ?_
          refine r_aload_n h 0 dL_law_648 rfl rfl ?_
          refine r_iload h 4 dL_law_649 rfl ?_
          refine r_iconst (v := 1) h dL_law_651 (by decide) ?_
          refine r_iadd h dL_law_652 ?_
          obtain ⟨j146, hf⟩ := hf
          refine r_sld h hsc dL_law_653 j146 ?_
          refine r_aload_n h 0 dL_law_654 rfl rfl ?_
          refine r_iload h 4 dL_law_655 rfl ?_
          refine r_iconst (v := 2) h dL_law_657 (by decide) ?_
          refine r_iadd h dL_law_658 ?_
          obtain ⟨j147, hf⟩ := hf
          refine r_sld h hsc dL_law_659 j147 ?_
          refine r_aload_n h 3 dL_law_660 rfl rfl ?_
          obtain ⟨h148, h149, hf⟩ := hf
          refine c1223 hl h dL_law_661 hf (Nat.le_of_ble_eq_true rfl) (by omega) (by omega) h148 h149 (fun x151 M150 hf => ?_)
          refine r_istore (lv' := [(5, .int x151), (0, .ref b), (1, .ref v1), (2, .ref v2), (3, .ref v3), (4, .int v4)]) h dL_law_664 (by decide) rfl ?_
          refine r_aload_n h 3 dL_law_666 rfl rfl ?_
          refine r_aload_n h 1 dL_law_667 rfl rfl ?_
          refine r_iload h 5 dL_law_668 rfl ?_
          refine r_iconst (v := 1) h dL_law_670 (by decide) ?_
          refine r_iadd h dL_law_671 ?_
          obtain ⟨j152, hf⟩ := hf
          refine r_sld h hsc dL_law_672 j152 ?_
          refine r_aload_n h 1 dL_law_673 rfl rfl ?_
          refine r_iload h 5 dL_law_674 rfl ?_
          refine r_iconst (v := 2) h dL_law_676 (by decide) ?_
          refine r_iadd h dL_law_677 ?_
          obtain ⟨j153, hf⟩ := hf
          refine r_sld h hsc dL_law_678 j153 ?_
          obtain ⟨k154, hf⟩ := hf
          refine c1989 hl h dL_law_679 k154 hf (Nat.le_of_ble_eq_true rfl) (by omega) (by omega) (fun x156 M155 hf => ?_)
          refine r_istore (lv' := [(6, .int x156), (5, .int x151), (0, .ref b), (1, .ref v1), (2, .ref v2), (3, .ref v3), (4, .int v4)]) h dL_law_682 (by decide) rfl ?_
          refine r_aload_n h 4 dL_law_684 rfl rfl ?_
          obtain ⟨k157, hf⟩ := hf
          refine c1582 hl h dL_law_685 k157 hf (Nat.le_of_ble_eq_true rfl) (by omega) (by omega) (fun x159 M158 hf => ?_)
          refine r_iload h 1 dL_law_688 rfl ?_
          refine r_icmp_eq (tgt := 695) h dL_law_690 (by decide) (fun c160 => ?_) (fun c160 => ?_)
          · have hf := ite_t c160 hf
            refine r_iload h 1 dL_law_695 rfl ?_
            refine r_if_ne (tgt := 712) h dL_law_697 (by decide) (fun c161 => ?_) (fun c161 => ?_)
            · have hf := ite_f c161 hf
              refine r_goto (tgt := 2980) h dL_law_712 (by decide) ?_
              refine r_iinc (v := v4 + 6) (lv' := [(4, .int (v4 + 6)), (6, .int x156), (5, .int x151), (0, .ref b), (1, .ref v1), (2, .ref v2), (3, .ref v3)]) h 6 dL_law_2980 rfl rfl (by decide) rfl ?_
              refine r_goto (tgt := 23) h dL_law_2983 (by decide) ?_
              exact V.sub [3, 4, 5, 6, 0] rfl hf
            · have hf := ite_t c161 hf
              refine r_aload_n h 5 dL_law_700 rfl rfl ?_
              refine r_iconst (v := 0) h dL_law_701 (by decide) ?_
              obtain ⟨j162, hf⟩ := hf
              refine r_laload h dL_law_702 j162 ?_
              refine r_iload h 0 dL_law_703 rfl ?_
              refine r_i2l h dL_law_705 ?_
              refine r_lcmp h dL_law_706 ?_
              refine r_if_eq (tgt := 712) h dL_law_707 (by decide) (fun c163 => ?_) (fun c163 => ?_)
              · have hf := ite_t c163 hf
                refine r_goto (tgt := 2980) h dL_law_712 (by decide) ?_
                refine r_iinc (v := v4 + 6) (lv' := [(4, .int (v4 + 6)), (6, .int x156), (5, .int x151), (0, .ref b), (1, .ref v1), (2, .ref v2), (3, .ref v3)]) h 6 dL_law_2980 rfl rfl (by decide) rfl ?_
                refine r_goto (tgt := 23) h dL_law_2983 (by decide) ?_
                exact V.sub [3, 4, 5, 6, 0] rfl hf
              · have hf := ite_f c163 hf
                refine r_iconst (v := 0) h dL_law_710 (by decide) ?_
                exact hf.elim
          · have hf := ite_f c160 hf
            refine r_iconst (v := 0) h dL_law_693 (by decide) ?_
            exact hf.elim
        have hf := ite_f c145 hf
        by_cases c164 : ((xs (ix v4)) &&& 63) = 9
        · have hf := ite_t c164 hf
          refine r_tableIn (off := 675) (tgt := 715) h dL_law_40 (by rw [c164]; decide) (by rw [c164]; decide) (by rw [c164]; rfl) (by decide) ?_
          refine r_aload_n h 1 dL_law_715 rfl rfl ?_
          refine r_aload_n h 0 dL_law_716 rfl rfl ?_
          refine r_iload h 4 dL_law_717 rfl ?_
          refine r_iconst (v := 1) h dL_law_719 (by decide) ?_
          refine r_iadd h dL_law_720 ?_
          obtain ⟨j165, hf⟩ := hf
          refine r_sld h hsc dL_law_721 j165 ?_
          refine r_aload_n h 0 dL_law_722 rfl rfl ?_
          refine r_iload h 4 dL_law_723 rfl ?_
          refine r_iconst (v := 2) h dL_law_725 (by decide) ?_
          refine r_iadd h dL_law_726 ?_
          obtain ⟨j166, hf⟩ := hf
          refine r_sld h hsc dL_law_727 j166 ?_
          refine r_aload_n h 3 dL_law_728 rfl rfl ?_
          obtain ⟨h167, h168, hf⟩ := hf
          refine c1254 hl h dL_law_729 hf (Nat.le_of_ble_eq_true rfl) (by omega) (by omega) h167 h168 (fun x170 M169 hf => ?_)
          refine r_istore (lv' := [(5, .int x170), (0, .ref b), (1, .ref v1), (2, .ref v2), (3, .ref v3), (4, .int v4)]) h dL_law_732 (by decide) rfl ?_
          refine r_aload_n h 3 dL_law_734 rfl rfl ?_
          refine r_aload_n h 1 dL_law_735 rfl rfl ?_
          refine r_iload h 5 dL_law_736 rfl ?_
          refine r_iconst (v := 1) h dL_law_738 (by decide) ?_
          refine r_iadd h dL_law_739 ?_
          obtain ⟨j171, hf⟩ := hf
          refine r_sld h hsc dL_law_740 j171 ?_
          refine r_aload_n h 1 dL_law_741 rfl rfl ?_
          refine r_iload h 5 dL_law_742 rfl ?_
          refine r_iconst (v := 2) h dL_law_744 (by decide) ?_
          refine r_iadd h dL_law_745 ?_
          obtain ⟨j172, hf⟩ := hf
          refine r_sld h hsc dL_law_746 j172 ?_
          obtain ⟨k173, hf⟩ := hf
          refine c2033 hl h dL_law_747 k173 hf (Nat.le_of_ble_eq_true rfl) (by omega) (by omega) (fun x175 M174 hf => ?_)
          refine r_istore (lv' := [(6, .int x175), (5, .int x170), (0, .ref b), (1, .ref v1), (2, .ref v2), (3, .ref v3), (4, .int v4)]) h dL_law_750 (by decide) rfl ?_
          refine r_aload_n h 4 dL_law_752 rfl rfl ?_
          obtain ⟨k176, hf⟩ := hf
          refine c1582 hl h dL_law_753 k176 hf (Nat.le_of_ble_eq_true rfl) (by omega) (by omega) (fun x178 M177 hf => ?_)
          refine r_iload h 1 dL_law_756 rfl ?_
          refine r_icmp_eq (tgt := 763) h dL_law_758 (by decide) (fun c179 => ?_) (fun c179 => ?_)
          · have hf := ite_t c179 hf
            refine r_iload h 1 dL_law_763 rfl ?_
            refine r_if_ne (tgt := 780) h dL_law_765 (by decide) (fun c180 => ?_) (fun c180 => ?_)
            · have hf := ite_f c180 hf
              refine r_goto (tgt := 2980) h dL_law_780 (by decide) ?_
              refine r_iinc (v := v4 + 6) (lv' := [(4, .int (v4 + 6)), (6, .int x175), (5, .int x170), (0, .ref b), (1, .ref v1), (2, .ref v2), (3, .ref v3)]) h 6 dL_law_2980 rfl rfl (by decide) rfl ?_
              refine r_goto (tgt := 23) h dL_law_2983 (by decide) ?_
              exact V.sub [3, 4, 5, 6, 0] rfl hf
            · have hf := ite_t c180 hf
              refine r_aload_n h 5 dL_law_768 rfl rfl ?_
              refine r_iconst (v := 0) h dL_law_769 (by decide) ?_
              obtain ⟨j181, hf⟩ := hf
              refine r_laload h dL_law_770 j181 ?_
              refine r_iload h 0 dL_law_771 rfl ?_
              refine r_i2l h dL_law_773 ?_
              refine r_lcmp h dL_law_774 ?_
              refine r_if_eq (tgt := 780) h dL_law_775 (by decide) (fun c182 => ?_) (fun c182 => ?_)
              · have hf := ite_t c182 hf
                refine r_goto (tgt := 2980) h dL_law_780 (by decide) ?_
                refine r_iinc (v := v4 + 6) (lv' := [(4, .int (v4 + 6)), (6, .int x175), (5, .int x170), (0, .ref b), (1, .ref v1), (2, .ref v2), (3, .ref v3)]) h 6 dL_law_2980 rfl rfl (by decide) rfl ?_
                refine r_goto (tgt := 23) h dL_law_2983 (by decide) ?_
                exact V.sub [3, 4, 5, 6, 0] rfl hf
              · have hf := ite_f c182 hf
                refine r_iconst (v := 0) h dL_law_778 (by decide) ?_
                exact hf.elim
          · have hf := ite_f c179 hf
            refine r_iconst (v := 0) h dL_law_761 (by decide) ?_
            exact hf.elim
        have hf := ite_f c164 hf
        by_cases c183 : ((xs (ix v4)) &&& 63) = 10
        · have hf := ite_t c183 hf
          refine r_tableIn (off := 743) (tgt := 783) h dL_law_40 (by rw [c183]; decide) (by rw [c183]; decide) (by rw [c183]; rfl) (by decide) ?_
          refine r_aload_n h 1 dL_law_783 rfl rfl ?_
          refine r_aload_n h 0 dL_law_784 rfl rfl ?_
          refine r_iload h 4 dL_law_785 rfl ?_
          refine r_iconst (v := 1) h dL_law_787 (by decide) ?_
          refine r_iadd h dL_law_788 ?_
          obtain ⟨j184, hf⟩ := hf
          refine r_sld h hsc dL_law_789 j184 ?_
          refine r_aload_n h 0 dL_law_790 rfl rfl ?_
          refine r_iload h 4 dL_law_791 rfl ?_
          refine r_iconst (v := 2) h dL_law_793 (by decide) ?_
          refine r_iadd h dL_law_794 ?_
          obtain ⟨j185, hf⟩ := hf
          refine r_sld h hsc dL_law_795 j185 ?_
          refine r_aload_n h 3 dL_law_796 rfl rfl ?_
          obtain ⟨h186, h187, hf⟩ := hf
          refine c1282 hl h dL_law_797 hf (Nat.le_of_ble_eq_true rfl) (by omega) (by omega) h186 h187 (fun x189 M188 hf => ?_)
          refine r_istore (lv' := [(5, .int x189), (0, .ref b), (1, .ref v1), (2, .ref v2), (3, .ref v3), (4, .int v4)]) h dL_law_800 (by decide) rfl ?_
          refine r_aload_n h 3 dL_law_802 rfl rfl ?_
          refine r_aload_n h 1 dL_law_803 rfl rfl ?_
          refine r_iload h 5 dL_law_804 rfl ?_
          refine r_iconst (v := 1) h dL_law_806 (by decide) ?_
          refine r_iadd h dL_law_807 ?_
          obtain ⟨j190, hf⟩ := hf
          refine r_sld h hsc dL_law_808 j190 ?_
          refine r_aload_n h 1 dL_law_809 rfl rfl ?_
          refine r_iload h 5 dL_law_810 rfl ?_
          refine r_iconst (v := 2) h dL_law_812 (by decide) ?_
          refine r_iadd h dL_law_813 ?_
          obtain ⟨j191, hf⟩ := hf
          refine r_sld h hsc dL_law_814 j191 ?_
          obtain ⟨k192, hf⟩ := hf
          refine c2053 hl h dL_law_815 k192 hf (Nat.le_of_ble_eq_true rfl) (by omega) (by omega) (fun x194 M193 hf => ?_)
          refine r_istore (lv' := [(6, .int x194), (5, .int x189), (0, .ref b), (1, .ref v1), (2, .ref v2), (3, .ref v3), (4, .int v4)]) h dL_law_818 (by decide) rfl ?_
          refine r_aload_n h 4 dL_law_820 rfl rfl ?_
          obtain ⟨k195, hf⟩ := hf
          refine c1582 hl h dL_law_821 k195 hf (Nat.le_of_ble_eq_true rfl) (by omega) (by omega) (fun x197 M196 hf => ?_)
          refine r_iload h 1 dL_law_824 rfl ?_
          refine r_icmp_eq (tgt := 831) h dL_law_826 (by decide) (fun c198 => ?_) (fun c198 => ?_)
          · have hf := ite_t c198 hf
            refine r_iload h 1 dL_law_831 rfl ?_
            refine r_if_ne (tgt := 848) h dL_law_833 (by decide) (fun c199 => ?_) (fun c199 => ?_)
            · have hf := ite_f c199 hf
              refine r_goto (tgt := 2980) h dL_law_848 (by decide) ?_
              refine r_iinc (v := v4 + 6) (lv' := [(4, .int (v4 + 6)), (6, .int x194), (5, .int x189), (0, .ref b), (1, .ref v1), (2, .ref v2), (3, .ref v3)]) h 6 dL_law_2980 rfl rfl (by decide) rfl ?_
              refine r_goto (tgt := 23) h dL_law_2983 (by decide) ?_
              exact V.sub [3, 4, 5, 6, 0] rfl hf
            · have hf := ite_t c199 hf
              refine r_aload_n h 5 dL_law_836 rfl rfl ?_
              refine r_iconst (v := 0) h dL_law_837 (by decide) ?_
              obtain ⟨j200, hf⟩ := hf
              refine r_laload h dL_law_838 j200 ?_
              refine r_iload h 0 dL_law_839 rfl ?_
              refine r_i2l h dL_law_841 ?_
              refine r_lcmp h dL_law_842 ?_
              refine r_if_eq (tgt := 848) h dL_law_843 (by decide) (fun c201 => ?_) (fun c201 => ?_)
              · have hf := ite_t c201 hf
                refine r_goto (tgt := 2980) h dL_law_848 (by decide) ?_
                refine r_iinc (v := v4 + 6) (lv' := [(4, .int (v4 + 6)), (6, .int x194), (5, .int x189), (0, .ref b), (1, .ref v1), (2, .ref v2), (3, .ref v3)]) h 6 dL_law_2980 rfl rfl (by decide) rfl ?_
                refine r_goto (tgt := 23) h dL_law_2983 (by decide) ?_
                exact V.sub [3, 4, 5, 6, 0] rfl hf
              · have hf := ite_f c201 hf
                refine r_iconst (v := 0) h dL_law_846 (by decide) ?_
                exact hf.elim
          · have hf := ite_f c198 hf
            refine r_iconst (v := 0) h dL_law_829 (by decide) ?_
            exact hf.elim
        have hf := ite_f c183 hf
        by_cases c202 : ((xs (ix v4)) &&& 63) = 11
        · have hf := ite_t c202 hf
          refine r_tableIn (off := 811) (tgt := 851) h dL_law_40 (by rw [c202]; decide) (by rw [c202]; decide) (by rw [c202]; rfl) (by decide) ?_
          refine r_aload_n h 1 dL_law_851 rfl rfl ?_
          refine r_aload_n h 0 dL_law_852 rfl rfl ?_
          refine r_iload h 4 dL_law_853 rfl ?_
          refine r_iconst (v := 1) h dL_law_855 (by decide) ?_
          refine r_iadd h dL_law_856 ?_
          obtain ⟨j203, hf⟩ := hf
          refine r_sld h hsc dL_law_857 j203 ?_
          refine r_aload_n h 0 dL_law_858 rfl rfl ?_
          refine r_iload h 4 dL_law_859 rfl ?_
          refine r_iconst (v := 2) h dL_law_861 (by decide) ?_
          refine r_iadd h dL_law_862 ?_
          obtain ⟨j204, hf⟩ := hf
          refine r_sld h hsc dL_law_863 j204 ?_
          refine r_aload_n h 3 dL_law_864 rfl rfl ?_
          obtain ⟨h205, h206, hf⟩ := hf
          refine c1289 hl h dL_law_865 hf (Nat.le_of_ble_eq_true rfl) (by omega) (by omega) h205 h206 (fun x208 M207 hf => ?_)
          refine r_istore (lv' := [(5, .int x208), (0, .ref b), (1, .ref v1), (2, .ref v2), (3, .ref v3), (4, .int v4)]) h dL_law_868 (by decide) rfl ?_
          refine r_aload_n h 3 dL_law_870 rfl rfl ?_
          refine r_aload_n h 1 dL_law_871 rfl rfl ?_
          refine r_iload h 5 dL_law_872 rfl ?_
          refine r_iconst (v := 1) h dL_law_874 (by decide) ?_
          refine r_iadd h dL_law_875 ?_
          obtain ⟨j209, hf⟩ := hf
          refine r_sld h hsc dL_law_876 j209 ?_
          refine r_aload_n h 1 dL_law_877 rfl rfl ?_
          refine r_iload h 5 dL_law_878 rfl ?_
          refine r_iconst (v := 2) h dL_law_880 (by decide) ?_
          refine r_iadd h dL_law_881 ?_
          obtain ⟨j210, hf⟩ := hf
          refine r_sld h hsc dL_law_882 j210 ?_
          obtain ⟨k211, hf⟩ := hf
          refine c2057 hl h dL_law_883 k211 hf (Nat.le_of_ble_eq_true rfl) (by omega) (by omega) (fun x213 M212 hf => ?_)
          refine r_istore (lv' := [(6, .int x213), (5, .int x208), (0, .ref b), (1, .ref v1), (2, .ref v2), (3, .ref v3), (4, .int v4)]) h dL_law_886 (by decide) rfl ?_
          refine r_aload_n h 4 dL_law_888 rfl rfl ?_
          obtain ⟨k214, hf⟩ := hf
          refine c1582 hl h dL_law_889 k214 hf (Nat.le_of_ble_eq_true rfl) (by omega) (by omega) (fun x216 M215 hf => ?_)
          refine r_iload h 1 dL_law_892 rfl ?_
          refine r_icmp_eq (tgt := 899) h dL_law_894 (by decide) (fun c217 => ?_) (fun c217 => ?_)
          · have hf := ite_t c217 hf
            refine r_iload h 1 dL_law_899 rfl ?_
            refine r_if_ne (tgt := 916) h dL_law_901 (by decide) (fun c218 => ?_) (fun c218 => ?_)
            · have hf := ite_f c218 hf
              refine r_goto (tgt := 2980) h dL_law_916 (by decide) ?_
              refine r_iinc (v := v4 + 6) (lv' := [(4, .int (v4 + 6)), (6, .int x213), (5, .int x208), (0, .ref b), (1, .ref v1), (2, .ref v2), (3, .ref v3)]) h 6 dL_law_2980 rfl rfl (by decide) rfl ?_
              refine r_goto (tgt := 23) h dL_law_2983 (by decide) ?_
              exact V.sub [3, 4, 5, 6, 0] rfl hf
            · have hf := ite_t c218 hf
              refine r_aload_n h 5 dL_law_904 rfl rfl ?_
              refine r_iconst (v := 0) h dL_law_905 (by decide) ?_
              obtain ⟨j219, hf⟩ := hf
              refine r_laload h dL_law_906 j219 ?_
              refine r_iload h 0 dL_law_907 rfl ?_
              refine r_i2l h dL_law_909 ?_
              refine r_lcmp h dL_law_910 ?_
              refine r_if_eq (tgt := 916) h dL_law_911 (by decide) (fun c220 => ?_) (fun c220 => ?_)
              · have hf := ite_t c220 hf
                refine r_goto (tgt := 2980) h dL_law_916 (by decide) ?_
                refine r_iinc (v := v4 + 6) (lv' := [(4, .int (v4 + 6)), (6, .int x213), (5, .int x208), (0, .ref b), (1, .ref v1), (2, .ref v2), (3, .ref v3)]) h 6 dL_law_2980 rfl rfl (by decide) rfl ?_
                refine r_goto (tgt := 23) h dL_law_2983 (by decide) ?_
                exact V.sub [3, 4, 5, 6, 0] rfl hf
              · have hf := ite_f c220 hf
                refine r_iconst (v := 0) h dL_law_914 (by decide) ?_
                exact hf.elim
          · have hf := ite_f c217 hf
            refine r_iconst (v := 0) h dL_law_897 (by decide) ?_
            exact hf.elim
        have hf := ite_f c202 hf
        by_cases c221 : ((xs (ix v4)) &&& 63) = 12
        · have hf := ite_t c221 hf
          refine r_tableIn (off := 879) (tgt := 919) h dL_law_40 (by rw [c221]; decide) (by rw [c221]; decide) (by rw [c221]; rfl) (by decide) ?_
          refine r_aload_n h 1 dL_law_919 rfl rfl ?_
          refine r_aload_n h 0 dL_law_920 rfl rfl ?_
          refine r_iload h 4 dL_law_921 rfl ?_
          refine r_iconst (v := 1) h dL_law_923 (by decide) ?_
          refine r_iadd h dL_law_924 ?_
          obtain ⟨j222, hf⟩ := hf
          refine r_sld h hsc dL_law_925 j222 ?_
          refine r_aload_n h 0 dL_law_926 rfl rfl ?_
          refine r_iload h 4 dL_law_927 rfl ?_
          refine r_iconst (v := 2) h dL_law_929 (by decide) ?_
          refine r_iadd h dL_law_930 ?_
          obtain ⟨j223, hf⟩ := hf
          refine r_sld h hsc dL_law_931 j223 ?_
          refine r_aload_n h 3 dL_law_932 rfl rfl ?_
          obtain ⟨h224, h225, hf⟩ := hf
          refine c1296 hl h dL_law_933 hf (Nat.le_of_ble_eq_true rfl) (by omega) (by omega) h224 h225 (fun x227 M226 hf => ?_)
          refine r_istore (lv' := [(5, .int x227), (0, .ref b), (1, .ref v1), (2, .ref v2), (3, .ref v3), (4, .int v4)]) h dL_law_936 (by decide) rfl ?_
          refine r_aload_n h 3 dL_law_938 rfl rfl ?_
          refine r_aload_n h 1 dL_law_939 rfl rfl ?_
          refine r_iload h 5 dL_law_940 rfl ?_
          refine r_iconst (v := 1) h dL_law_942 (by decide) ?_
          refine r_iadd h dL_law_943 ?_
          obtain ⟨j228, hf⟩ := hf
          refine r_sld h hsc dL_law_944 j228 ?_
          refine r_aload_n h 1 dL_law_945 rfl rfl ?_
          refine r_iload h 5 dL_law_946 rfl ?_
          refine r_iconst (v := 2) h dL_law_948 (by decide) ?_
          refine r_iadd h dL_law_949 ?_
          obtain ⟨j229, hf⟩ := hf
          refine r_sld h hsc dL_law_950 j229 ?_
          obtain ⟨k230, hf⟩ := hf
          refine c2061 hl h dL_law_951 k230 hf (Nat.le_of_ble_eq_true rfl) (by omega) (by omega) (fun x232 M231 hf => ?_)
          refine r_istore (lv' := [(6, .int x232), (5, .int x227), (0, .ref b), (1, .ref v1), (2, .ref v2), (3, .ref v3), (4, .int v4)]) h dL_law_954 (by decide) rfl ?_
          refine r_aload_n h 4 dL_law_956 rfl rfl ?_
          obtain ⟨k233, hf⟩ := hf
          refine c1582 hl h dL_law_957 k233 hf (Nat.le_of_ble_eq_true rfl) (by omega) (by omega) (fun x235 M234 hf => ?_)
          refine r_iload h 1 dL_law_960 rfl ?_
          refine r_icmp_eq (tgt := 967) h dL_law_962 (by decide) (fun c236 => ?_) (fun c236 => ?_)
          · have hf := ite_t c236 hf
            refine r_iload h 1 dL_law_967 rfl ?_
            refine r_if_ne (tgt := 984) h dL_law_969 (by decide) (fun c237 => ?_) (fun c237 => ?_)
            · have hf := ite_f c237 hf
              refine r_goto (tgt := 2980) h dL_law_984 (by decide) ?_
              refine r_iinc (v := v4 + 6) (lv' := [(4, .int (v4 + 6)), (6, .int x232), (5, .int x227), (0, .ref b), (1, .ref v1), (2, .ref v2), (3, .ref v3)]) h 6 dL_law_2980 rfl rfl (by decide) rfl ?_
              refine r_goto (tgt := 23) h dL_law_2983 (by decide) ?_
              exact V.sub [3, 4, 5, 6, 0] rfl hf
            · have hf := ite_t c237 hf
              refine r_aload_n h 5 dL_law_972 rfl rfl ?_
              refine r_iconst (v := 0) h dL_law_973 (by decide) ?_
              obtain ⟨j238, hf⟩ := hf
              refine r_laload h dL_law_974 j238 ?_
              refine r_iload h 0 dL_law_975 rfl ?_
              refine r_i2l h dL_law_977 ?_
              refine r_lcmp h dL_law_978 ?_
              refine r_if_eq (tgt := 984) h dL_law_979 (by decide) (fun c239 => ?_) (fun c239 => ?_)
              · have hf := ite_t c239 hf
                refine r_goto (tgt := 2980) h dL_law_984 (by decide) ?_
                refine r_iinc (v := v4 + 6) (lv' := [(4, .int (v4 + 6)), (6, .int x232), (5, .int x227), (0, .ref b), (1, .ref v1), (2, .ref v2), (3, .ref v3)]) h 6 dL_law_2980 rfl rfl (by decide) rfl ?_
                refine r_goto (tgt := 23) h dL_law_2983 (by decide) ?_
                exact V.sub [3, 4, 5, 6, 0] rfl hf
              · have hf := ite_f c239 hf
                refine r_iconst (v := 0) h dL_law_982 (by decide) ?_
                exact hf.elim
          · have hf := ite_f c236 hf
            refine r_iconst (v := 0) h dL_law_965 (by decide) ?_
            exact hf.elim
        have hf := ite_f c221 hf
        by_cases c240 : ((xs (ix v4)) &&& 63) = 13
        · have hf := ite_t c240 hf
          refine r_tableIn (off := 947) (tgt := 987) h dL_law_40 (by rw [c240]; decide) (by rw [c240]; decide) (by rw [c240]; rfl) (by decide) ?_
          refine r_aload_n h 1 dL_law_987 rfl rfl ?_
          refine r_aload_n h 0 dL_law_988 rfl rfl ?_
          refine r_iload h 4 dL_law_989 rfl ?_
          refine r_iconst (v := 1) h dL_law_991 (by decide) ?_
          refine r_iadd h dL_law_992 ?_
          obtain ⟨j241, hf⟩ := hf
          refine r_sld h hsc dL_law_993 j241 ?_
          refine r_aload_n h 0 dL_law_994 rfl rfl ?_
          refine r_iload h 4 dL_law_995 rfl ?_
          refine r_iconst (v := 2) h dL_law_997 (by decide) ?_
          refine r_iadd h dL_law_998 ?_
          obtain ⟨j242, hf⟩ := hf
          refine r_sld h hsc dL_law_999 j242 ?_
          refine r_aload_n h 3 dL_law_1000 rfl rfl ?_
          obtain ⟨h243, h244, hf⟩ := hf
          refine c1309 hl h dL_law_1001 hf (Nat.le_of_ble_eq_true rfl) (by omega) (by omega) h243 h244 (fun x246 M245 hf => ?_)
          refine r_istore (lv' := [(5, .int x246), (0, .ref b), (1, .ref v1), (2, .ref v2), (3, .ref v3), (4, .int v4)]) h dL_law_1004 (by decide) rfl ?_
          refine r_aload_n h 3 dL_law_1006 rfl rfl ?_
          refine r_aload_n h 1 dL_law_1007 rfl rfl ?_
          refine r_iload h 5 dL_law_1008 rfl ?_
          refine r_iconst (v := 1) h dL_law_1010 (by decide) ?_
          refine r_iadd h dL_law_1011 ?_
          obtain ⟨j247, hf⟩ := hf
          refine r_sld h hsc dL_law_1012 j247 ?_
          refine r_aload_n h 1 dL_law_1013 rfl rfl ?_
          refine r_iload h 5 dL_law_1014 rfl ?_
          refine r_iconst (v := 2) h dL_law_1016 (by decide) ?_
          refine r_iadd h dL_law_1017 ?_
          obtain ⟨j248, hf⟩ := hf
          refine r_sld h hsc dL_law_1018 j248 ?_
          obtain ⟨k249, hf⟩ := hf
          refine c2069 hl h dL_law_1019 k249 hf (Nat.le_of_ble_eq_true rfl) (by omega) (by omega) (fun x251 M250 hf => ?_)
          refine r_istore (lv' := [(6, .int x251), (5, .int x246), (0, .ref b), (1, .ref v1), (2, .ref v2), (3, .ref v3), (4, .int v4)]) h dL_law_1022 (by decide) rfl ?_
          refine r_aload_n h 4 dL_law_1024 rfl rfl ?_
          obtain ⟨k252, hf⟩ := hf
          refine c1582 hl h dL_law_1025 k252 hf (Nat.le_of_ble_eq_true rfl) (by omega) (by omega) (fun x254 M253 hf => ?_)
          refine r_iload h 1 dL_law_1028 rfl ?_
          refine r_icmp_eq (tgt := 1035) h dL_law_1030 (by decide) (fun c255 => ?_) (fun c255 => ?_)
          · have hf := ite_t c255 hf
            refine r_iload h 1 dL_law_1035 rfl ?_
            refine r_if_ne (tgt := 1052) h dL_law_1037 (by decide) (fun c256 => ?_) (fun c256 => ?_)
            · have hf := ite_f c256 hf
              refine r_goto (tgt := 2980) h dL_law_1052 (by decide) ?_
              refine r_iinc (v := v4 + 6) (lv' := [(4, .int (v4 + 6)), (6, .int x251), (5, .int x246), (0, .ref b), (1, .ref v1), (2, .ref v2), (3, .ref v3)]) h 6 dL_law_2980 rfl rfl (by decide) rfl ?_
              refine r_goto (tgt := 23) h dL_law_2983 (by decide) ?_
              exact V.sub [3, 4, 5, 6, 0] rfl hf
            · have hf := ite_t c256 hf
              refine r_aload_n h 5 dL_law_1040 rfl rfl ?_
              refine r_iconst (v := 0) h dL_law_1041 (by decide) ?_
              obtain ⟨j257, hf⟩ := hf
              refine r_laload h dL_law_1042 j257 ?_
              refine r_iload h 0 dL_law_1043 rfl ?_
              refine r_i2l h dL_law_1045 ?_
              refine r_lcmp h dL_law_1046 ?_
              refine r_if_eq (tgt := 1052) h dL_law_1047 (by decide) (fun c258 => ?_) (fun c258 => ?_)
              · have hf := ite_t c258 hf
                refine r_goto (tgt := 2980) h dL_law_1052 (by decide) ?_
                refine r_iinc (v := v4 + 6) (lv' := [(4, .int (v4 + 6)), (6, .int x251), (5, .int x246), (0, .ref b), (1, .ref v1), (2, .ref v2), (3, .ref v3)]) h 6 dL_law_2980 rfl rfl (by decide) rfl ?_
                refine r_goto (tgt := 23) h dL_law_2983 (by decide) ?_
                exact V.sub [3, 4, 5, 6, 0] rfl hf
              · have hf := ite_f c258 hf
                refine r_iconst (v := 0) h dL_law_1050 (by decide) ?_
                exact hf.elim
          · have hf := ite_f c255 hf
            refine r_iconst (v := 0) h dL_law_1033 (by decide) ?_
            exact hf.elim
        have hf := ite_f c240 hf
        by_cases c259 : ((xs (ix v4)) &&& 63) = 14
        · have hf := ite_t c259 hf
          refine r_tableIn (off := 1015) (tgt := 1055) h dL_law_40 (by rw [c259]; decide) (by rw [c259]; decide) (by rw [c259]; rfl) (by decide) ?_
          refine r_aload_n h 1 dL_law_1055 rfl rfl ?_
          refine r_aload_n h 0 dL_law_1056 rfl rfl ?_
          refine r_iload h 4 dL_law_1057 rfl ?_
          refine r_iconst (v := 1) h dL_law_1059 (by decide) ?_
          refine r_iadd h dL_law_1060 ?_
          obtain ⟨j260, hf⟩ := hf
          refine r_sld h hsc dL_law_1061 j260 ?_
          refine r_aload_n h 3 dL_law_1062 rfl rfl ?_
          obtain ⟨h261, h262, hf⟩ := hf
          refine c1316 hl h dL_law_1063 hf (Nat.le_of_ble_eq_true rfl) (by omega) (by omega) h261 h262 (fun x264 M263 hf => ?_)
          refine r_istore (lv' := [(5, .int x264), (0, .ref b), (1, .ref v1), (2, .ref v2), (3, .ref v3), (4, .int v4)]) h dL_law_1066 (by decide) rfl ?_
          refine r_aload_n h 3 dL_law_1068 rfl rfl ?_
          refine r_aload_n h 1 dL_law_1069 rfl rfl ?_
          refine r_iload h 5 dL_law_1070 rfl ?_
          refine r_iconst (v := 1) h dL_law_1072 (by decide) ?_
          refine r_iadd h dL_law_1073 ?_
          obtain ⟨j265, hf⟩ := hf
          refine r_sld h hsc dL_law_1074 j265 ?_
          obtain ⟨k266, hf⟩ := hf
          refine c2073 hl h dL_law_1075 k266 hf (Nat.le_of_ble_eq_true rfl) (by omega) (by omega) (fun x268 M267 hf => ?_)
          refine r_istore (lv' := [(6, .int x268), (5, .int x264), (0, .ref b), (1, .ref v1), (2, .ref v2), (3, .ref v3), (4, .int v4)]) h dL_law_1078 (by decide) rfl ?_
          refine r_aload_n h 4 dL_law_1080 rfl rfl ?_
          obtain ⟨k269, hf⟩ := hf
          refine c1582 hl h dL_law_1081 k269 hf (Nat.le_of_ble_eq_true rfl) (by omega) (by omega) (fun x271 M270 hf => ?_)
          refine r_iload h 1 dL_law_1084 rfl ?_
          refine r_icmp_eq (tgt := 1091) h dL_law_1086 (by decide) (fun c272 => ?_) (fun c272 => ?_)
          · have hf := ite_t c272 hf
            refine r_iload h 1 dL_law_1091 rfl ?_
            refine r_if_ne (tgt := 1108) h dL_law_1093 (by decide) (fun c273 => ?_) (fun c273 => ?_)
            · have hf := ite_f c273 hf
              refine r_goto (tgt := 2980) h dL_law_1108 (by decide) ?_
              refine r_iinc (v := v4 + 6) (lv' := [(4, .int (v4 + 6)), (6, .int x268), (5, .int x264), (0, .ref b), (1, .ref v1), (2, .ref v2), (3, .ref v3)]) h 6 dL_law_2980 rfl rfl (by decide) rfl ?_
              refine r_goto (tgt := 23) h dL_law_2983 (by decide) ?_
              exact V.sub [3, 4, 5, 6, 0] rfl hf
            · have hf := ite_t c273 hf
              refine r_aload_n h 5 dL_law_1096 rfl rfl ?_
              refine r_iconst (v := 0) h dL_law_1097 (by decide) ?_
              obtain ⟨j274, hf⟩ := hf
              refine r_laload h dL_law_1098 j274 ?_
              refine r_iload h 0 dL_law_1099 rfl ?_
              refine r_i2l h dL_law_1101 ?_
              refine r_lcmp h dL_law_1102 ?_
              refine r_if_eq (tgt := 1108) h dL_law_1103 (by decide) (fun c275 => ?_) (fun c275 => ?_)
              · have hf := ite_t c275 hf
                refine r_goto (tgt := 2980) h dL_law_1108 (by decide) ?_
                refine r_iinc (v := v4 + 6) (lv' := [(4, .int (v4 + 6)), (6, .int x268), (5, .int x264), (0, .ref b), (1, .ref v1), (2, .ref v2), (3, .ref v3)]) h 6 dL_law_2980 rfl rfl (by decide) rfl ?_
                refine r_goto (tgt := 23) h dL_law_2983 (by decide) ?_
                exact V.sub [3, 4, 5, 6, 0] rfl hf
              · have hf := ite_f c275 hf
                refine r_iconst (v := 0) h dL_law_1106 (by decide) ?_
                exact hf.elim
          · have hf := ite_f c272 hf
            refine r_iconst (v := 0) h dL_law_1089 (by decide) ?_
            exact hf.elim
        have hf := ite_f c259 hf
        by_cases c276 : ((xs (ix v4)) &&& 63) = 15
        · have hf := ite_t c276 hf
          refine r_tableIn (off := 1071) (tgt := 1111) h dL_law_40 (by rw [c276]; decide) (by rw [c276]; decide) (by rw [c276]; rfl) (by decide) ?_
          refine r_aload_n h 1 dL_law_1111 rfl rfl ?_
          refine r_aload_n h 0 dL_law_1112 rfl rfl ?_
          refine r_iload h 4 dL_law_1113 rfl ?_
          refine r_iconst (v := 1) h dL_law_1115 (by decide) ?_
          refine r_iadd h dL_law_1116 ?_
          obtain ⟨j277, hf⟩ := hf
          refine r_sld h hsc dL_law_1117 j277 ?_
          refine r_aload_n h 3 dL_law_1118 rfl rfl ?_
          obtain ⟨h278, h279, hf⟩ := hf
          refine c1343 hl h dL_law_1119 hf (Nat.le_of_ble_eq_true rfl) (by omega) (by omega) h278 h279 (fun x281 M280 hf => ?_)
          refine r_istore (lv' := [(5, .int x281), (0, .ref b), (1, .ref v1), (2, .ref v2), (3, .ref v3), (4, .int v4)]) h dL_law_1122 (by decide) rfl ?_
          refine r_aload_n h 3 dL_law_1124 rfl rfl ?_
          refine r_aload_n h 1 dL_law_1125 rfl rfl ?_
          refine r_iload h 5 dL_law_1126 rfl ?_
          refine r_iconst (v := 1) h dL_law_1128 (by decide) ?_
          refine r_iadd h dL_law_1129 ?_
          obtain ⟨j282, hf⟩ := hf
          refine r_sld h hsc dL_law_1130 j282 ?_
          obtain ⟨k283, hf⟩ := hf
          refine c2081 hl h dL_law_1131 k283 hf (Nat.le_of_ble_eq_true rfl) (by omega) (by omega) (fun x285 M284 hf => ?_)
          refine r_istore (lv' := [(6, .int x285), (5, .int x281), (0, .ref b), (1, .ref v1), (2, .ref v2), (3, .ref v3), (4, .int v4)]) h dL_law_1134 (by decide) rfl ?_
          refine r_aload_n h 4 dL_law_1136 rfl rfl ?_
          obtain ⟨k286, hf⟩ := hf
          refine c1582 hl h dL_law_1137 k286 hf (Nat.le_of_ble_eq_true rfl) (by omega) (by omega) (fun x288 M287 hf => ?_)
          refine r_iload h 1 dL_law_1140 rfl ?_
          refine r_icmp_eq (tgt := 1147) h dL_law_1142 (by decide) (fun c289 => ?_) (fun c289 => ?_)
          · have hf := ite_t c289 hf
            refine r_iload h 1 dL_law_1147 rfl ?_
            refine r_if_ne (tgt := 1164) h dL_law_1149 (by decide) (fun c290 => ?_) (fun c290 => ?_)
            · have hf := ite_f c290 hf
              refine r_goto (tgt := 2980) h dL_law_1164 (by decide) ?_
              refine r_iinc (v := v4 + 6) (lv' := [(4, .int (v4 + 6)), (6, .int x285), (5, .int x281), (0, .ref b), (1, .ref v1), (2, .ref v2), (3, .ref v3)]) h 6 dL_law_2980 rfl rfl (by decide) rfl ?_
              refine r_goto (tgt := 23) h dL_law_2983 (by decide) ?_
              exact V.sub [3, 4, 5, 6, 0] rfl hf
            · have hf := ite_t c290 hf
              refine r_aload_n h 5 dL_law_1152 rfl rfl ?_
              refine r_iconst (v := 0) h dL_law_1153 (by decide) ?_
              obtain ⟨j291, hf⟩ := hf
              refine r_laload h dL_law_1154 j291 ?_
              refine r_iload h 0 dL_law_1155 rfl ?_
              refine r_i2l h dL_law_1157 ?_
              refine r_lcmp h dL_law_1158 ?_
              refine r_if_eq (tgt := 1164) h dL_law_1159 (by decide) (fun c292 => ?_) (fun c292 => ?_)
              · have hf := ite_t c292 hf
                refine r_goto (tgt := 2980) h dL_law_1164 (by decide) ?_
                refine r_iinc (v := v4 + 6) (lv' := [(4, .int (v4 + 6)), (6, .int x285), (5, .int x281), (0, .ref b), (1, .ref v1), (2, .ref v2), (3, .ref v3)]) h 6 dL_law_2980 rfl rfl (by decide) rfl ?_
                refine r_goto (tgt := 23) h dL_law_2983 (by decide) ?_
                exact V.sub [3, 4, 5, 6, 0] rfl hf
              · have hf := ite_f c292 hf
                refine r_iconst (v := 0) h dL_law_1162 (by decide) ?_
                exact hf.elim
          · have hf := ite_f c289 hf
            refine r_iconst (v := 0) h dL_law_1145 (by decide) ?_
            exact hf.elim
        have hf := ite_f c276 hf
        by_cases c293 : ((xs (ix v4)) &&& 63) = 16
        · have hf := ite_t c293 hf
          refine r_tableIn (off := 1127) (tgt := 1167) h dL_law_40 (by rw [c293]; decide) (by rw [c293]; decide) (by rw [c293]; rfl) (by decide) ?_
          refine r_aload_n h 1 dL_law_1167 rfl rfl ?_
          refine r_aload_n h 0 dL_law_1168 rfl rfl ?_
          refine r_iload h 4 dL_law_1169 rfl ?_
          refine r_iconst (v := 1) h dL_law_1171 (by decide) ?_
          refine r_iadd h dL_law_1172 ?_
          obtain ⟨j294, hf⟩ := hf
          refine r_sld h hsc dL_law_1173 j294 ?_
          refine r_aload_n h 0 dL_law_1174 rfl rfl ?_
          refine r_iload h 4 dL_law_1175 rfl ?_
          refine r_iconst (v := 2) h dL_law_1177 (by decide) ?_
          refine r_iadd h dL_law_1178 ?_
          obtain ⟨j295, hf⟩ := hf
          refine r_sld h hsc dL_law_1179 j295 ?_
          refine r_aload_n h 0 dL_law_1180 rfl rfl ?_
          refine r_iload h 4 dL_law_1181 rfl ?_
          refine r_iconst (v := 3) h dL_law_1183 (by decide) ?_
          refine r_iadd h dL_law_1184 ?_
          obtain ⟨j296, hf⟩ := hf
          refine r_sld h hsc dL_law_1185 j296 ?_
          refine r_aload_n h 0 dL_law_1186 rfl rfl ?_
          refine r_iload h 4 dL_law_1187 rfl ?_
          refine r_iconst (v := 4) h dL_law_1189 (by decide) ?_
          refine r_iadd h dL_law_1190 ?_
          obtain ⟨j297, hf⟩ := hf
          refine r_sld h hsc dL_law_1191 j297 ?_
          refine r_aload_n h 3 dL_law_1192 rfl rfl ?_
          obtain ⟨h298, h299, hf⟩ := hf
          refine c1370 hl h dL_law_1193 hf (Nat.le_of_ble_eq_true rfl) (by omega) (by omega) h298 h299 (fun x301 M300 hf => ?_)
          refine r_istore (lv' := [(5, .int x301), (0, .ref b), (1, .ref v1), (2, .ref v2), (3, .ref v3), (4, .int v4)]) h dL_law_1196 (by decide) rfl ?_
          refine r_aload_n h 3 dL_law_1198 rfl rfl ?_
          refine r_aload_n h 1 dL_law_1199 rfl rfl ?_
          refine r_iload h 5 dL_law_1200 rfl ?_
          refine r_iconst (v := 1) h dL_law_1202 (by decide) ?_
          refine r_iadd h dL_law_1203 ?_
          obtain ⟨j302, hf⟩ := hf
          refine r_sld h hsc dL_law_1204 j302 ?_
          refine r_aload_n h 1 dL_law_1205 rfl rfl ?_
          refine r_iload h 5 dL_law_1206 rfl ?_
          refine r_iconst (v := 2) h dL_law_1208 (by decide) ?_
          refine r_iadd h dL_law_1209 ?_
          obtain ⟨j303, hf⟩ := hf
          refine r_sld h hsc dL_law_1210 j303 ?_
          refine r_aload_n h 1 dL_law_1211 rfl rfl ?_
          refine r_iload h 5 dL_law_1212 rfl ?_
          refine r_iconst (v := 3) h dL_law_1214 (by decide) ?_
          refine r_iadd h dL_law_1215 ?_
          obtain ⟨j304, hf⟩ := hf
          refine r_sld h hsc dL_law_1216 j304 ?_
          refine r_aload_n h 1 dL_law_1217 rfl rfl ?_
          refine r_iload h 5 dL_law_1218 rfl ?_
          refine r_iconst (v := 4) h dL_law_1220 (by decide) ?_
          refine r_iadd h dL_law_1221 ?_
          obtain ⟨j305, hf⟩ := hf
          refine r_sld h hsc dL_law_1222 j305 ?_
          obtain ⟨k306, hf⟩ := hf
          refine c2097 hl h dL_law_1223 k306 hf (Nat.le_of_ble_eq_true rfl) (by omega) (by omega) (fun x308 M307 hf => ?_)
          refine r_istore (lv' := [(6, .int x308), (5, .int x301), (0, .ref b), (1, .ref v1), (2, .ref v2), (3, .ref v3), (4, .int v4)]) h dL_law_1226 (by decide) rfl ?_
          refine r_aload_n h 4 dL_law_1228 rfl rfl ?_
          obtain ⟨k309, hf⟩ := hf
          refine c1582 hl h dL_law_1229 k309 hf (Nat.le_of_ble_eq_true rfl) (by omega) (by omega) (fun x311 M310 hf => ?_)
          refine r_iload h 1 dL_law_1232 rfl ?_
          refine r_icmp_eq (tgt := 1239) h dL_law_1234 (by decide) (fun c312 => ?_) (fun c312 => ?_)
          · have hf := ite_t c312 hf
            refine r_iload h 1 dL_law_1239 rfl ?_
            refine r_if_ne (tgt := 1256) h dL_law_1241 (by decide) (fun c313 => ?_) (fun c313 => ?_)
            · have hf := ite_f c313 hf
              refine r_goto (tgt := 2980) h dL_law_1256 (by decide) ?_
              refine r_iinc (v := v4 + 6) (lv' := [(4, .int (v4 + 6)), (6, .int x308), (5, .int x301), (0, .ref b), (1, .ref v1), (2, .ref v2), (3, .ref v3)]) h 6 dL_law_2980 rfl rfl (by decide) rfl ?_
              refine r_goto (tgt := 23) h dL_law_2983 (by decide) ?_
              exact V.sub [3, 4, 5, 6, 0] rfl hf
            · have hf := ite_t c313 hf
              refine r_aload_n h 5 dL_law_1244 rfl rfl ?_
              refine r_iconst (v := 0) h dL_law_1245 (by decide) ?_
              obtain ⟨j314, hf⟩ := hf
              refine r_laload h dL_law_1246 j314 ?_
              refine r_iload h 0 dL_law_1247 rfl ?_
              refine r_i2l h dL_law_1249 ?_
              refine r_lcmp h dL_law_1250 ?_
              refine r_if_eq (tgt := 1256) h dL_law_1251 (by decide) (fun c315 => ?_) (fun c315 => ?_)
              · have hf := ite_t c315 hf
                refine r_goto (tgt := 2980) h dL_law_1256 (by decide) ?_
                refine r_iinc (v := v4 + 6) (lv' := [(4, .int (v4 + 6)), (6, .int x308), (5, .int x301), (0, .ref b), (1, .ref v1), (2, .ref v2), (3, .ref v3)]) h 6 dL_law_2980 rfl rfl (by decide) rfl ?_
                refine r_goto (tgt := 23) h dL_law_2983 (by decide) ?_
                exact V.sub [3, 4, 5, 6, 0] rfl hf
              · have hf := ite_f c315 hf
                refine r_iconst (v := 0) h dL_law_1254 (by decide) ?_
                exact hf.elim
          · have hf := ite_f c312 hf
            refine r_iconst (v := 0) h dL_law_1237 (by decide) ?_
            exact hf.elim
        have hf := ite_f c293 hf
        by_cases c316 : ((xs (ix v4)) &&& 63) = 17
        · have hf := ite_t c316 hf
          refine r_tableIn (off := 1219) (tgt := 1259) h dL_law_40 (by rw [c316]; decide) (by rw [c316]; decide) (by rw [c316]; rfl) (by decide) ?_
          refine r_aload_n h 1 dL_law_1259 rfl rfl ?_
          refine r_aload_n h 0 dL_law_1260 rfl rfl ?_
          refine r_iload h 4 dL_law_1261 rfl ?_
          refine r_iconst (v := 1) h dL_law_1263 (by decide) ?_
          refine r_iadd h dL_law_1264 ?_
          obtain ⟨j317, hf⟩ := hf
          refine r_sld h hsc dL_law_1265 j317 ?_
          refine r_aload_n h 0 dL_law_1266 rfl rfl ?_
          refine r_iload h 4 dL_law_1267 rfl ?_
          refine r_iconst (v := 2) h dL_law_1269 (by decide) ?_
          refine r_iadd h dL_law_1270 ?_
          obtain ⟨j318, hf⟩ := hf
          refine r_sld h hsc dL_law_1271 j318 ?_
          refine r_aload_n h 3 dL_law_1272 rfl rfl ?_
          obtain ⟨h319, h320, hf⟩ := hf
          refine c1381 hl h dL_law_1273 hf (Nat.le_of_ble_eq_true rfl) (by omega) (by omega) h319 h320 (fun x322 M321 hf => ?_)
          refine r_istore (lv' := [(5, .int x322), (0, .ref b), (1, .ref v1), (2, .ref v2), (3, .ref v3), (4, .int v4)]) h dL_law_1276 (by decide) rfl ?_
          refine r_aload_n h 3 dL_law_1278 rfl rfl ?_
          refine r_aload_n h 1 dL_law_1279 rfl rfl ?_
          refine r_iload h 5 dL_law_1280 rfl ?_
          refine r_iconst (v := 1) h dL_law_1282 (by decide) ?_
          refine r_iadd h dL_law_1283 ?_
          obtain ⟨j323, hf⟩ := hf
          refine r_sld h hsc dL_law_1284 j323 ?_
          refine r_aload_n h 1 dL_law_1285 rfl rfl ?_
          refine r_iload h 5 dL_law_1286 rfl ?_
          refine r_iconst (v := 2) h dL_law_1288 (by decide) ?_
          refine r_iadd h dL_law_1289 ?_
          obtain ⟨j324, hf⟩ := hf
          refine r_sld h hsc dL_law_1290 j324 ?_
          obtain ⟨k325, hf⟩ := hf
          refine c2105 hl h dL_law_1291 k325 hf (Nat.le_of_ble_eq_true rfl) (by omega) (by omega) (fun x327 M326 hf => ?_)
          refine r_istore (lv' := [(6, .int x327), (5, .int x322), (0, .ref b), (1, .ref v1), (2, .ref v2), (3, .ref v3), (4, .int v4)]) h dL_law_1294 (by decide) rfl ?_
          refine r_aload_n h 4 dL_law_1296 rfl rfl ?_
          obtain ⟨k328, hf⟩ := hf
          refine c1582 hl h dL_law_1297 k328 hf (Nat.le_of_ble_eq_true rfl) (by omega) (by omega) (fun x330 M329 hf => ?_)
          refine r_iload h 1 dL_law_1300 rfl ?_
          refine r_icmp_eq (tgt := 1307) h dL_law_1302 (by decide) (fun c331 => ?_) (fun c331 => ?_)
          · have hf := ite_t c331 hf
            refine r_iload h 1 dL_law_1307 rfl ?_
            refine r_if_ne (tgt := 1324) h dL_law_1309 (by decide) (fun c332 => ?_) (fun c332 => ?_)
            · have hf := ite_f c332 hf
              refine r_goto (tgt := 2980) h dL_law_1324 (by decide) ?_
              refine r_iinc (v := v4 + 6) (lv' := [(4, .int (v4 + 6)), (6, .int x327), (5, .int x322), (0, .ref b), (1, .ref v1), (2, .ref v2), (3, .ref v3)]) h 6 dL_law_2980 rfl rfl (by decide) rfl ?_
              refine r_goto (tgt := 23) h dL_law_2983 (by decide) ?_
              exact V.sub [3, 4, 5, 6, 0] rfl hf
            · have hf := ite_t c332 hf
              refine r_aload_n h 5 dL_law_1312 rfl rfl ?_
              refine r_iconst (v := 0) h dL_law_1313 (by decide) ?_
              obtain ⟨j333, hf⟩ := hf
              refine r_laload h dL_law_1314 j333 ?_
              refine r_iload h 0 dL_law_1315 rfl ?_
              refine r_i2l h dL_law_1317 ?_
              refine r_lcmp h dL_law_1318 ?_
              refine r_if_eq (tgt := 1324) h dL_law_1319 (by decide) (fun c334 => ?_) (fun c334 => ?_)
              · have hf := ite_t c334 hf
                refine r_goto (tgt := 2980) h dL_law_1324 (by decide) ?_
                refine r_iinc (v := v4 + 6) (lv' := [(4, .int (v4 + 6)), (6, .int x327), (5, .int x322), (0, .ref b), (1, .ref v1), (2, .ref v2), (3, .ref v3)]) h 6 dL_law_2980 rfl rfl (by decide) rfl ?_
                refine r_goto (tgt := 23) h dL_law_2983 (by decide) ?_
                exact V.sub [3, 4, 5, 6, 0] rfl hf
              · have hf := ite_f c334 hf
                refine r_iconst (v := 0) h dL_law_1322 (by decide) ?_
                exact hf.elim
          · have hf := ite_f c331 hf
            refine r_iconst (v := 0) h dL_law_1305 (by decide) ?_
            exact hf.elim
        have hf := ite_f c316 hf
        by_cases c335 : ((xs (ix v4)) &&& 63) = 18
        · have hf := ite_t c335 hf
          refine r_tableIn (off := 1287) (tgt := 1327) h dL_law_40 (by rw [c335]; decide) (by rw [c335]; decide) (by rw [c335]; rfl) (by decide) ?_
          refine r_aload_n h 1 dL_law_1327 rfl rfl ?_
          refine r_aload_n h 0 dL_law_1328 rfl rfl ?_
          refine r_iload h 4 dL_law_1329 rfl ?_
          refine r_iconst (v := 1) h dL_law_1331 (by decide) ?_
          refine r_iadd h dL_law_1332 ?_
          obtain ⟨j336, hf⟩ := hf
          refine r_sld h hsc dL_law_1333 j336 ?_
          refine r_aload_n h 0 dL_law_1334 rfl rfl ?_
          refine r_iload h 4 dL_law_1335 rfl ?_
          refine r_iconst (v := 2) h dL_law_1337 (by decide) ?_
          refine r_iadd h dL_law_1338 ?_
          obtain ⟨j337, hf⟩ := hf
          refine r_sld h hsc dL_law_1339 j337 ?_
          refine r_aload_n h 3 dL_law_1340 rfl rfl ?_
          obtain ⟨h338, h339, hf⟩ := hf
          refine c1388 hl h dL_law_1341 hf (Nat.le_of_ble_eq_true rfl) (by omega) (by omega) h338 h339 (fun x341 M340 hf => ?_)
          refine r_istore (lv' := [(5, .int x341), (0, .ref b), (1, .ref v1), (2, .ref v2), (3, .ref v3), (4, .int v4)]) h dL_law_1344 (by decide) rfl ?_
          refine r_aload_n h 3 dL_law_1346 rfl rfl ?_
          refine r_aload_n h 1 dL_law_1347 rfl rfl ?_
          refine r_iload h 5 dL_law_1348 rfl ?_
          refine r_iconst (v := 1) h dL_law_1350 (by decide) ?_
          refine r_iadd h dL_law_1351 ?_
          obtain ⟨j342, hf⟩ := hf
          refine r_sld h hsc dL_law_1352 j342 ?_
          refine r_aload_n h 1 dL_law_1353 rfl rfl ?_
          refine r_iload h 5 dL_law_1354 rfl ?_
          refine r_iconst (v := 2) h dL_law_1356 (by decide) ?_
          refine r_iadd h dL_law_1357 ?_
          obtain ⟨j343, hf⟩ := hf
          refine r_sld h hsc dL_law_1358 j343 ?_
          obtain ⟨k344, hf⟩ := hf
          refine c2109 hl h dL_law_1359 k344 hf (Nat.le_of_ble_eq_true rfl) (by omega) (by omega) (fun x346 M345 hf => ?_)
          refine r_istore (lv' := [(6, .int x346), (5, .int x341), (0, .ref b), (1, .ref v1), (2, .ref v2), (3, .ref v3), (4, .int v4)]) h dL_law_1362 (by decide) rfl ?_
          refine r_aload_n h 4 dL_law_1364 rfl rfl ?_
          obtain ⟨k347, hf⟩ := hf
          refine c1582 hl h dL_law_1365 k347 hf (Nat.le_of_ble_eq_true rfl) (by omega) (by omega) (fun x349 M348 hf => ?_)
          refine r_iload h 1 dL_law_1368 rfl ?_
          refine r_icmp_eq (tgt := 1375) h dL_law_1370 (by decide) (fun c350 => ?_) (fun c350 => ?_)
          · have hf := ite_t c350 hf
            refine r_iload h 1 dL_law_1375 rfl ?_
            refine r_if_ne (tgt := 1392) h dL_law_1377 (by decide) (fun c351 => ?_) (fun c351 => ?_)
            · have hf := ite_f c351 hf
              refine r_goto (tgt := 2980) h dL_law_1392 (by decide) ?_
              refine r_iinc (v := v4 + 6) (lv' := [(4, .int (v4 + 6)), (6, .int x346), (5, .int x341), (0, .ref b), (1, .ref v1), (2, .ref v2), (3, .ref v3)]) h 6 dL_law_2980 rfl rfl (by decide) rfl ?_
              refine r_goto (tgt := 23) h dL_law_2983 (by decide) ?_
              exact V.sub [3, 4, 5, 6, 0] rfl hf
            · have hf := ite_t c351 hf
              refine r_aload_n h 5 dL_law_1380 rfl rfl ?_
              refine r_iconst (v := 0) h dL_law_1381 (by decide) ?_
              obtain ⟨j352, hf⟩ := hf
              refine r_laload h dL_law_1382 j352 ?_
              refine r_iload h 0 dL_law_1383 rfl ?_
              refine r_i2l h dL_law_1385 ?_
              refine r_lcmp h dL_law_1386 ?_
              refine r_if_eq (tgt := 1392) h dL_law_1387 (by decide) (fun c353 => ?_) (fun c353 => ?_)
              · have hf := ite_t c353 hf
                refine r_goto (tgt := 2980) h dL_law_1392 (by decide) ?_
                refine r_iinc (v := v4 + 6) (lv' := [(4, .int (v4 + 6)), (6, .int x346), (5, .int x341), (0, .ref b), (1, .ref v1), (2, .ref v2), (3, .ref v3)]) h 6 dL_law_2980 rfl rfl (by decide) rfl ?_
                refine r_goto (tgt := 23) h dL_law_2983 (by decide) ?_
                exact V.sub [3, 4, 5, 6, 0] rfl hf
              · have hf := ite_f c353 hf
                refine r_iconst (v := 0) h dL_law_1390 (by decide) ?_
                exact hf.elim
          · have hf := ite_f c350 hf
            refine r_iconst (v := 0) h dL_law_1373 (by decide) ?_
            exact hf.elim
        have hf := ite_f c335 hf
        by_cases c354 : ((xs (ix v4)) &&& 63) = 19
        · have hf := ite_t c354 hf
          refine r_tableIn (off := 1355) (tgt := 1395) h dL_law_40 (by rw [c354]; decide) (by rw [c354]; decide) (by rw [c354]; rfl) (by decide) ?_
          refine r_aload_n h 1 dL_law_1395 rfl rfl ?_
          refine r_aload_n h 0 dL_law_1396 rfl rfl ?_
          refine r_iload h 4 dL_law_1397 rfl ?_
          refine r_iconst (v := 1) h dL_law_1399 (by decide) ?_
          refine r_iadd h dL_law_1400 ?_
          obtain ⟨j355, hf⟩ := hf
          refine r_sld h hsc dL_law_1401 j355 ?_
          refine r_aload_n h 0 dL_law_1402 rfl rfl ?_
          refine r_iload h 4 dL_law_1403 rfl ?_
          refine r_iconst (v := 2) h dL_law_1405 (by decide) ?_
          refine r_iadd h dL_law_1406 ?_
          obtain ⟨j356, hf⟩ := hf
          refine r_sld h hsc dL_law_1407 j356 ?_
          refine r_aload_n h 3 dL_law_1408 rfl rfl ?_
          obtain ⟨h357, h358, hf⟩ := hf
          refine c1395 hl h dL_law_1409 hf (Nat.le_of_ble_eq_true rfl) (by omega) (by omega) h357 h358 (fun x360 M359 hf => ?_)
          refine r_istore (lv' := [(5, .int x360), (0, .ref b), (1, .ref v1), (2, .ref v2), (3, .ref v3), (4, .int v4)]) h dL_law_1412 (by decide) rfl ?_
          refine r_aload_n h 3 dL_law_1414 rfl rfl ?_
          refine r_aload_n h 1 dL_law_1415 rfl rfl ?_
          refine r_iload h 5 dL_law_1416 rfl ?_
          refine r_iconst (v := 1) h dL_law_1418 (by decide) ?_
          refine r_iadd h dL_law_1419 ?_
          obtain ⟨j361, hf⟩ := hf
          refine r_sld h hsc dL_law_1420 j361 ?_
          refine r_aload_n h 1 dL_law_1421 rfl rfl ?_
          refine r_iload h 5 dL_law_1422 rfl ?_
          refine r_iconst (v := 2) h dL_law_1424 (by decide) ?_
          refine r_iadd h dL_law_1425 ?_
          obtain ⟨j362, hf⟩ := hf
          refine r_sld h hsc dL_law_1426 j362 ?_
          obtain ⟨k363, hf⟩ := hf
          refine c2113 hl h dL_law_1427 k363 hf (Nat.le_of_ble_eq_true rfl) (by omega) (by omega) (fun x365 M364 hf => ?_)
          refine r_istore (lv' := [(6, .int x365), (5, .int x360), (0, .ref b), (1, .ref v1), (2, .ref v2), (3, .ref v3), (4, .int v4)]) h dL_law_1430 (by decide) rfl ?_
          refine r_aload_n h 4 dL_law_1432 rfl rfl ?_
          obtain ⟨k366, hf⟩ := hf
          refine c1582 hl h dL_law_1433 k366 hf (Nat.le_of_ble_eq_true rfl) (by omega) (by omega) (fun x368 M367 hf => ?_)
          refine r_iload h 1 dL_law_1436 rfl ?_
          refine r_icmp_eq (tgt := 1443) h dL_law_1438 (by decide) (fun c369 => ?_) (fun c369 => ?_)
          · have hf := ite_t c369 hf
            refine r_iload h 1 dL_law_1443 rfl ?_
            refine r_if_ne (tgt := 1460) h dL_law_1445 (by decide) (fun c370 => ?_) (fun c370 => ?_)
            · have hf := ite_f c370 hf
              refine r_goto (tgt := 2980) h dL_law_1460 (by decide) ?_
              refine r_iinc (v := v4 + 6) (lv' := [(4, .int (v4 + 6)), (6, .int x365), (5, .int x360), (0, .ref b), (1, .ref v1), (2, .ref v2), (3, .ref v3)]) h 6 dL_law_2980 rfl rfl (by decide) rfl ?_
              refine r_goto (tgt := 23) h dL_law_2983 (by decide) ?_
              exact V.sub [3, 4, 5, 6, 0] rfl hf
            · have hf := ite_t c370 hf
              refine r_aload_n h 5 dL_law_1448 rfl rfl ?_
              refine r_iconst (v := 0) h dL_law_1449 (by decide) ?_
              obtain ⟨j371, hf⟩ := hf
              refine r_laload h dL_law_1450 j371 ?_
              refine r_iload h 0 dL_law_1451 rfl ?_
              refine r_i2l h dL_law_1453 ?_
              refine r_lcmp h dL_law_1454 ?_
              refine r_if_eq (tgt := 1460) h dL_law_1455 (by decide) (fun c372 => ?_) (fun c372 => ?_)
              · have hf := ite_t c372 hf
                refine r_goto (tgt := 2980) h dL_law_1460 (by decide) ?_
                refine r_iinc (v := v4 + 6) (lv' := [(4, .int (v4 + 6)), (6, .int x365), (5, .int x360), (0, .ref b), (1, .ref v1), (2, .ref v2), (3, .ref v3)]) h 6 dL_law_2980 rfl rfl (by decide) rfl ?_
                refine r_goto (tgt := 23) h dL_law_2983 (by decide) ?_
                exact V.sub [3, 4, 5, 6, 0] rfl hf
              · have hf := ite_f c372 hf
                refine r_iconst (v := 0) h dL_law_1458 (by decide) ?_
                exact hf.elim
          · have hf := ite_f c369 hf
            refine r_iconst (v := 0) h dL_law_1441 (by decide) ?_
            exact hf.elim
        have hf := ite_f c354 hf
        by_cases c373 : ((xs (ix v4)) &&& 63) = 20
        · have hf := ite_t c373 hf
          refine r_tableIn (off := 1423) (tgt := 1463) h dL_law_40 (by rw [c373]; decide) (by rw [c373]; decide) (by rw [c373]; rfl) (by decide) ?_
          refine r_aload_n h 1 dL_law_1463 rfl rfl ?_
          refine r_aload_n h 0 dL_law_1464 rfl rfl ?_
          refine r_iload h 4 dL_law_1465 rfl ?_
          refine r_iconst (v := 1) h dL_law_1467 (by decide) ?_
          refine r_iadd h dL_law_1468 ?_
          obtain ⟨j374, hf⟩ := hf
          refine r_sld h hsc dL_law_1469 j374 ?_
          refine r_aload_n h 3 dL_law_1470 rfl rfl ?_
          obtain ⟨h375, h376, hf⟩ := hf
          refine c1406 hl h dL_law_1471 hf (Nat.le_of_ble_eq_true rfl) (by omega) (by omega) h375 h376 (fun x378 M377 hf => ?_)
          refine r_istore (lv' := [(5, .int x378), (0, .ref b), (1, .ref v1), (2, .ref v2), (3, .ref v3), (4, .int v4)]) h dL_law_1474 (by decide) rfl ?_
          refine r_aload_n h 3 dL_law_1476 rfl rfl ?_
          refine r_aload_n h 1 dL_law_1477 rfl rfl ?_
          refine r_iload h 5 dL_law_1478 rfl ?_
          refine r_iconst (v := 1) h dL_law_1480 (by decide) ?_
          refine r_iadd h dL_law_1481 ?_
          obtain ⟨j379, hf⟩ := hf
          refine r_sld h hsc dL_law_1482 j379 ?_
          obtain ⟨k380, hf⟩ := hf
          refine c2117 hl h dL_law_1483 k380 hf (Nat.le_of_ble_eq_true rfl) (by omega) (by omega) (fun x382 M381 hf => ?_)
          refine r_istore (lv' := [(6, .int x382), (5, .int x378), (0, .ref b), (1, .ref v1), (2, .ref v2), (3, .ref v3), (4, .int v4)]) h dL_law_1486 (by decide) rfl ?_
          refine r_aload_n h 4 dL_law_1488 rfl rfl ?_
          obtain ⟨k383, hf⟩ := hf
          refine c1582 hl h dL_law_1489 k383 hf (Nat.le_of_ble_eq_true rfl) (by omega) (by omega) (fun x385 M384 hf => ?_)
          refine r_iload h 1 dL_law_1492 rfl ?_
          refine r_icmp_eq (tgt := 1499) h dL_law_1494 (by decide) (fun c386 => ?_) (fun c386 => ?_)
          · have hf := ite_t c386 hf
            refine r_iload h 1 dL_law_1499 rfl ?_
            refine r_if_ne (tgt := 1516) h dL_law_1501 (by decide) (fun c387 => ?_) (fun c387 => ?_)
            · have hf := ite_f c387 hf
              refine r_goto (tgt := 2980) h dL_law_1516 (by decide) ?_
              refine r_iinc (v := v4 + 6) (lv' := [(4, .int (v4 + 6)), (6, .int x382), (5, .int x378), (0, .ref b), (1, .ref v1), (2, .ref v2), (3, .ref v3)]) h 6 dL_law_2980 rfl rfl (by decide) rfl ?_
              refine r_goto (tgt := 23) h dL_law_2983 (by decide) ?_
              exact V.sub [3, 4, 5, 6, 0] rfl hf
            · have hf := ite_t c387 hf
              refine r_aload_n h 5 dL_law_1504 rfl rfl ?_
              refine r_iconst (v := 0) h dL_law_1505 (by decide) ?_
              obtain ⟨j388, hf⟩ := hf
              refine r_laload h dL_law_1506 j388 ?_
              refine r_iload h 0 dL_law_1507 rfl ?_
              refine r_i2l h dL_law_1509 ?_
              refine r_lcmp h dL_law_1510 ?_
              refine r_if_eq (tgt := 1516) h dL_law_1511 (by decide) (fun c389 => ?_) (fun c389 => ?_)
              · have hf := ite_t c389 hf
                refine r_goto (tgt := 2980) h dL_law_1516 (by decide) ?_
                refine r_iinc (v := v4 + 6) (lv' := [(4, .int (v4 + 6)), (6, .int x382), (5, .int x378), (0, .ref b), (1, .ref v1), (2, .ref v2), (3, .ref v3)]) h 6 dL_law_2980 rfl rfl (by decide) rfl ?_
                refine r_goto (tgt := 23) h dL_law_2983 (by decide) ?_
                exact V.sub [3, 4, 5, 6, 0] rfl hf
              · have hf := ite_f c389 hf
                refine r_iconst (v := 0) h dL_law_1514 (by decide) ?_
                exact hf.elim
          · have hf := ite_f c386 hf
            refine r_iconst (v := 0) h dL_law_1497 (by decide) ?_
            exact hf.elim
        have hf := ite_f c373 hf
        by_cases c390 : ((xs (ix v4)) &&& 63) = 21
        · have hf := ite_t c390 hf
          refine r_tableIn (off := 1479) (tgt := 1519) h dL_law_40 (by rw [c390]; decide) (by rw [c390]; decide) (by rw [c390]; rfl) (by decide) ?_
          refine r_aload_n h 1 dL_law_1519 rfl rfl ?_
          obtain ⟨k391, hf⟩ := hf
          refine c641 hl h dL_law_1520 k391 hf (Nat.le_of_ble_eq_true rfl) (by omega) (by omega) (fun x393 M392 hf => ?_)
          refine r_aload_n h 2 dL_law_1523 rfl rfl ?_
          obtain ⟨k394, hf⟩ := hf
          refine c2121 hl h dL_law_1524 k394 hf (Nat.le_of_ble_eq_true rfl) (by omega) (by omega) (fun x396 M395 hf => ?_)
          refine r_icmp_eq (tgt := 2980) h dL_law_1527 (by decide) (fun c397 => ?_) (fun c397 => ?_)
          · have hf := ite_t c397 hf
            refine r_iinc (v := v4 + 6) (lv' := [(4, .int (v4 + 6)), (0, .ref b), (1, .ref v1), (2, .ref v2), (3, .ref v3)]) h 4 dL_law_2980 rfl rfl (by decide) rfl ?_
            refine r_goto (tgt := 23) h dL_law_2983 (by decide) ?_
            exact V.sub [1, 2, 3, 4, 0] rfl hf
          · have hf := ite_f c397 hf
            refine r_iconst (v := 0) h dL_law_1530 (by decide) ?_
            exact hf.elim
        have hf := ite_f c390 hf
        by_cases c398 : ((xs (ix v4)) &&& 63) = 22
        · have hf := ite_t c398 hf
          refine r_tableIn (off := 1492) (tgt := 1532) h dL_law_40 (by rw [c398]; decide) (by rw [c398]; decide) (by rw [c398]; rfl) (by decide) ?_
          refine r_aload_n h 1 dL_law_1532 rfl rfl ?_
          refine r_aload_n h 0 dL_law_1533 rfl rfl ?_
          refine r_iload h 4 dL_law_1534 rfl ?_
          refine r_iconst (v := 1) h dL_law_1536 (by decide) ?_
          refine r_iadd h dL_law_1537 ?_
          obtain ⟨j399, hf⟩ := hf
          refine r_sld h hsc dL_law_1538 j399 ?_
          refine r_if_eq (tgt := 1546) h dL_law_1539 (by decide) (fun c400 => ?_) (fun c400 => ?_)
          · have hf := ite_t c400 hf
            refine r_iconst (v := 0) h dL_law_1546 (by decide) ?_
            exact V.sub [0, 1, 2, 3, 4] rfl hf
          · have hf := ite_f c400 hf
            refine r_iconst (v := 1) h dL_law_1542 (by decide) ?_
            refine r_goto (tgt := 1547) h dL_law_1543 (by decide) ?_
            exact V.sub [0, 1, 2, 3, 4] rfl hf
        have hf := ite_f c398 hf
        by_cases c401 : ((xs (ix v4)) &&& 63) = 23
        · have hf := ite_t c401 hf
          refine r_tableIn (off := 1533) (tgt := 1573) h dL_law_40 (by rw [c401]; decide) (by rw [c401]; decide) (by rw [c401]; rfl) (by decide) ?_
          refine r_aload_n h 1 dL_law_1573 rfl rfl ?_
          refine r_aload_n h 0 dL_law_1574 rfl rfl ?_
          refine r_iload h 4 dL_law_1575 rfl ?_
          refine r_iconst (v := 1) h dL_law_1577 (by decide) ?_
          refine r_iadd h dL_law_1578 ?_
          obtain ⟨j402, hf⟩ := hf
          refine r_sld h hsc dL_law_1579 j402 ?_
          refine r_aload_n h 3 dL_law_1580 rfl rfl ?_
          obtain ⟨h403, h404, hf⟩ := hf
          refine c1415 hl h dL_law_1581 hf (Nat.le_of_ble_eq_true rfl) (by omega) (by omega) h403 h404 (fun x406 M405 hf => ?_)
          refine r_istore (lv' := [(5, .int x406), (0, .ref b), (1, .ref v1), (2, .ref v2), (3, .ref v3), (4, .int v4)]) h dL_law_1584 (by decide) rfl ?_
          refine r_aload_n h 3 dL_law_1586 rfl rfl ?_
          refine r_aload_n h 1 dL_law_1587 rfl rfl ?_
          refine r_iload h 5 dL_law_1588 rfl ?_
          refine r_iconst (v := 1) h dL_law_1590 (by decide) ?_
          refine r_iadd h dL_law_1591 ?_
          obtain ⟨j407, hf⟩ := hf
          refine r_sld h hsc dL_law_1592 j407 ?_
          obtain ⟨k408, hf⟩ := hf
          refine c2137 hl h dL_law_1593 k408 hf (Nat.le_of_ble_eq_true rfl) (by omega) (by omega) (fun x410 M409 hf => ?_)
          refine r_istore (lv' := [(6, .int x410), (5, .int x406), (0, .ref b), (1, .ref v1), (2, .ref v2), (3, .ref v3), (4, .int v4)]) h dL_law_1596 (by decide) rfl ?_
          refine r_aload_n h 4 dL_law_1598 rfl rfl ?_
          obtain ⟨k411, hf⟩ := hf
          refine c1582 hl h dL_law_1599 k411 hf (Nat.le_of_ble_eq_true rfl) (by omega) (by omega) (fun x413 M412 hf => ?_)
          refine r_iload h 1 dL_law_1602 rfl ?_
          refine r_icmp_eq (tgt := 1609) h dL_law_1604 (by decide) (fun c414 => ?_) (fun c414 => ?_)
          · have hf := ite_t c414 hf
            refine r_iload h 1 dL_law_1609 rfl ?_
            refine r_if_ne (tgt := 1626) h dL_law_1611 (by decide) (fun c415 => ?_) (fun c415 => ?_)
            · have hf := ite_f c415 hf
              refine r_goto (tgt := 2980) h dL_law_1626 (by decide) ?_
              refine r_iinc (v := v4 + 6) (lv' := [(4, .int (v4 + 6)), (6, .int x410), (5, .int x406), (0, .ref b), (1, .ref v1), (2, .ref v2), (3, .ref v3)]) h 6 dL_law_2980 rfl rfl (by decide) rfl ?_
              refine r_goto (tgt := 23) h dL_law_2983 (by decide) ?_
              exact V.sub [3, 4, 5, 6, 0] rfl hf
            · have hf := ite_t c415 hf
              refine r_aload_n h 5 dL_law_1614 rfl rfl ?_
              refine r_iconst (v := 0) h dL_law_1615 (by decide) ?_
              obtain ⟨j416, hf⟩ := hf
              refine r_laload h dL_law_1616 j416 ?_
              refine r_iload h 0 dL_law_1617 rfl ?_
              refine r_i2l h dL_law_1619 ?_
              refine r_lcmp h dL_law_1620 ?_
              refine r_if_eq (tgt := 1626) h dL_law_1621 (by decide) (fun c417 => ?_) (fun c417 => ?_)
              · have hf := ite_t c417 hf
                refine r_goto (tgt := 2980) h dL_law_1626 (by decide) ?_
                refine r_iinc (v := v4 + 6) (lv' := [(4, .int (v4 + 6)), (6, .int x410), (5, .int x406), (0, .ref b), (1, .ref v1), (2, .ref v2), (3, .ref v3)]) h 6 dL_law_2980 rfl rfl (by decide) rfl ?_
                refine r_goto (tgt := 23) h dL_law_2983 (by decide) ?_
                exact V.sub [3, 4, 5, 6, 0] rfl hf
              · have hf := ite_f c417 hf
                refine r_iconst (v := 0) h dL_law_1624 (by decide) ?_
                exact hf.elim
          · have hf := ite_f c414 hf
            refine r_iconst (v := 0) h dL_law_1607 (by decide) ?_
            exact hf.elim
        have hf := ite_f c401 hf
        by_cases c418 : ((xs (ix v4)) &&& 63) = 24
        · have hf := ite_t c418 hf
          refine r_tableIn (off := 1589) (tgt := 1629) h dL_law_40 (by rw [c418]; decide) (by rw [c418]; decide) (by rw [c418]; rfl) (by decide) ?_
          refine r_aload_n h 1 dL_law_1629 rfl rfl ?_
          refine r_aload_n h 0 dL_law_1630 rfl rfl ?_
          refine r_iload h 4 dL_law_1631 rfl ?_
          refine r_iconst (v := 1) h dL_law_1633 (by decide) ?_
          refine r_iadd h dL_law_1634 ?_
          obtain ⟨j419, hf⟩ := hf
          refine r_sld h hsc dL_law_1635 j419 ?_
          refine r_aload_n h 0 dL_law_1636 rfl rfl ?_
          refine r_iload h 4 dL_law_1637 rfl ?_
          refine r_iconst (v := 2) h dL_law_1639 (by decide) ?_
          refine r_iadd h dL_law_1640 ?_
          obtain ⟨j420, hf⟩ := hf
          refine r_sld h hsc dL_law_1641 j420 ?_
          refine r_aload_n h 0 dL_law_1642 rfl rfl ?_
          refine r_iload h 4 dL_law_1643 rfl ?_
          refine r_iconst (v := 3) h dL_law_1645 (by decide) ?_
          refine r_iadd h dL_law_1646 ?_
          obtain ⟨j421, hf⟩ := hf
          refine r_sld h hsc dL_law_1647 j421 ?_
          refine r_aload_n h 3 dL_law_1648 rfl rfl ?_
          obtain ⟨h422, h423, hf⟩ := hf
          refine c1427 hl h dL_law_1649 hf (Nat.le_of_ble_eq_true rfl) (by omega) (by omega) h422 h423 (fun x425 M424 hf => ?_)
          refine r_istore (lv' := [(5, .int x425), (0, .ref b), (1, .ref v1), (2, .ref v2), (3, .ref v3), (4, .int v4)]) h dL_law_1652 (by decide) rfl ?_
          refine r_aload_n h 3 dL_law_1654 rfl rfl ?_
          refine r_aload_n h 1 dL_law_1655 rfl rfl ?_
          refine r_iload h 5 dL_law_1656 rfl ?_
          refine r_iconst (v := 1) h dL_law_1658 (by decide) ?_
          refine r_iadd h dL_law_1659 ?_
          obtain ⟨j426, hf⟩ := hf
          refine r_sld h hsc dL_law_1660 j426 ?_
          refine r_aload_n h 1 dL_law_1661 rfl rfl ?_
          refine r_iload h 5 dL_law_1662 rfl ?_
          refine r_iconst (v := 2) h dL_law_1664 (by decide) ?_
          refine r_iadd h dL_law_1665 ?_
          obtain ⟨j427, hf⟩ := hf
          refine r_sld h hsc dL_law_1666 j427 ?_
          refine r_aload_n h 1 dL_law_1667 rfl rfl ?_
          refine r_iload h 5 dL_law_1668 rfl ?_
          refine r_iconst (v := 3) h dL_law_1670 (by decide) ?_
          refine r_iadd h dL_law_1671 ?_
          obtain ⟨j428, hf⟩ := hf
          refine r_sld h hsc dL_law_1672 j428 ?_
          obtain ⟨k429, hf⟩ := hf
          refine c2153 hl h dL_law_1673 k429 hf (Nat.le_of_ble_eq_true rfl) (by omega) (by omega) (fun x431 M430 hf => ?_)
          refine r_istore (lv' := [(6, .int x431), (5, .int x425), (0, .ref b), (1, .ref v1), (2, .ref v2), (3, .ref v3), (4, .int v4)]) h dL_law_1676 (by decide) rfl ?_
          refine r_aload_n h 4 dL_law_1678 rfl rfl ?_
          obtain ⟨k432, hf⟩ := hf
          refine c1582 hl h dL_law_1679 k432 hf (Nat.le_of_ble_eq_true rfl) (by omega) (by omega) (fun x434 M433 hf => ?_)
          refine r_iload h 1 dL_law_1682 rfl ?_
          refine r_icmp_eq (tgt := 1689) h dL_law_1684 (by decide) (fun c435 => ?_) (fun c435 => ?_)
          · have hf := ite_t c435 hf
            refine r_iload h 1 dL_law_1689 rfl ?_
            refine r_if_ne (tgt := 1706) h dL_law_1691 (by decide) (fun c436 => ?_) (fun c436 => ?_)
            · have hf := ite_f c436 hf
              refine r_goto (tgt := 2980) h dL_law_1706 (by decide) ?_
              refine r_iinc (v := v4 + 6) (lv' := [(4, .int (v4 + 6)), (6, .int x431), (5, .int x425), (0, .ref b), (1, .ref v1), (2, .ref v2), (3, .ref v3)]) h 6 dL_law_2980 rfl rfl (by decide) rfl ?_
              refine r_goto (tgt := 23) h dL_law_2983 (by decide) ?_
              exact V.sub [3, 4, 5, 6, 0] rfl hf
            · have hf := ite_t c436 hf
              refine r_aload_n h 5 dL_law_1694 rfl rfl ?_
              refine r_iconst (v := 0) h dL_law_1695 (by decide) ?_
              obtain ⟨j437, hf⟩ := hf
              refine r_laload h dL_law_1696 j437 ?_
              refine r_iload h 0 dL_law_1697 rfl ?_
              refine r_i2l h dL_law_1699 ?_
              refine r_lcmp h dL_law_1700 ?_
              refine r_if_eq (tgt := 1706) h dL_law_1701 (by decide) (fun c438 => ?_) (fun c438 => ?_)
              · have hf := ite_t c438 hf
                refine r_goto (tgt := 2980) h dL_law_1706 (by decide) ?_
                refine r_iinc (v := v4 + 6) (lv' := [(4, .int (v4 + 6)), (6, .int x431), (5, .int x425), (0, .ref b), (1, .ref v1), (2, .ref v2), (3, .ref v3)]) h 6 dL_law_2980 rfl rfl (by decide) rfl ?_
                refine r_goto (tgt := 23) h dL_law_2983 (by decide) ?_
                exact V.sub [3, 4, 5, 6, 0] rfl hf
              · have hf := ite_f c438 hf
                refine r_iconst (v := 0) h dL_law_1704 (by decide) ?_
                exact hf.elim
          · have hf := ite_f c435 hf
            refine r_iconst (v := 0) h dL_law_1687 (by decide) ?_
            exact hf.elim
        have hf := ite_f c418 hf
        by_cases c439 : ((xs (ix v4)) &&& 63) = 25
        · have hf := ite_t c439 hf
          refine r_tableIn (off := 1669) (tgt := 1709) h dL_law_40 (by rw [c439]; decide) (by rw [c439]; decide) (by rw [c439]; rfl) (by decide) ?_
          refine r_aload_n h 1 dL_law_1709 rfl rfl ?_
          refine r_aload_n h 0 dL_law_1710 rfl rfl ?_
          refine r_iload h 4 dL_law_1711 rfl ?_
          refine r_iconst (v := 1) h dL_law_1713 (by decide) ?_
          refine r_iadd h dL_law_1714 ?_
          obtain ⟨j440, hf⟩ := hf
          refine r_sld h hsc dL_law_1715 j440 ?_
          refine r_aload_n h 0 dL_law_1716 rfl rfl ?_
          refine r_iload h 4 dL_law_1717 rfl ?_
          refine r_iconst (v := 2) h dL_law_1719 (by decide) ?_
          refine r_iadd h dL_law_1720 ?_
          obtain ⟨j441, hf⟩ := hf
          refine r_sld h hsc dL_law_1721 j441 ?_
          refine r_aload_n h 0 dL_law_1722 rfl rfl ?_
          refine r_iload h 4 dL_law_1723 rfl ?_
          refine r_iconst (v := 3) h dL_law_1725 (by decide) ?_
          refine r_iadd h dL_law_1726 ?_
          obtain ⟨j442, hf⟩ := hf
          refine r_sld h hsc dL_law_1727 j442 ?_
          refine r_aload_n h 0 dL_law_1728 rfl rfl ?_
          refine r_iload h 4 dL_law_1729 rfl ?_
          refine r_iconst (v := 4) h dL_law_1731 (by decide) ?_
          refine r_iadd h dL_law_1732 ?_
          obtain ⟨j443, hf⟩ := hf
          refine r_sld h hsc dL_law_1733 j443 ?_
          refine r_aload_n h 3 dL_law_1734 rfl rfl ?_
          obtain ⟨h444, h445, hf⟩ := hf
          refine c1442 hl h dL_law_1735 hf (Nat.le_of_ble_eq_true rfl) (by omega) (by omega) h444 h445 (fun x447 M446 hf => ?_)
          refine r_istore (lv' := [(5, .int x447), (0, .ref b), (1, .ref v1), (2, .ref v2), (3, .ref v3), (4, .int v4)]) h dL_law_1738 (by decide) rfl ?_
          refine r_aload_n h 3 dL_law_1740 rfl rfl ?_
          refine r_aload_n h 1 dL_law_1741 rfl rfl ?_
          refine r_iload h 5 dL_law_1742 rfl ?_
          refine r_iconst (v := 1) h dL_law_1744 (by decide) ?_
          refine r_iadd h dL_law_1745 ?_
          obtain ⟨j448, hf⟩ := hf
          refine r_sld h hsc dL_law_1746 j448 ?_
          refine r_aload_n h 1 dL_law_1747 rfl rfl ?_
          refine r_iload h 5 dL_law_1748 rfl ?_
          refine r_iconst (v := 2) h dL_law_1750 (by decide) ?_
          refine r_iadd h dL_law_1751 ?_
          obtain ⟨j449, hf⟩ := hf
          refine r_sld h hsc dL_law_1752 j449 ?_
          refine r_aload_n h 1 dL_law_1753 rfl rfl ?_
          refine r_iload h 5 dL_law_1754 rfl ?_
          refine r_iconst (v := 3) h dL_law_1756 (by decide) ?_
          refine r_iadd h dL_law_1757 ?_
          obtain ⟨j450, hf⟩ := hf
          refine r_sld h hsc dL_law_1758 j450 ?_
          refine r_aload_n h 1 dL_law_1759 rfl rfl ?_
          refine r_iload h 5 dL_law_1760 rfl ?_
          refine r_iconst (v := 4) h dL_law_1762 (by decide) ?_
          refine r_iadd h dL_law_1763 ?_
          obtain ⟨j451, hf⟩ := hf
          refine r_sld h hsc dL_law_1764 j451 ?_
          obtain ⟨k452, hf⟩ := hf
          refine c2161 hl h dL_law_1765 k452 hf (Nat.le_of_ble_eq_true rfl) (by omega) (by omega) (fun x454 M453 hf => ?_)
          refine r_istore (lv' := [(6, .int x454), (5, .int x447), (0, .ref b), (1, .ref v1), (2, .ref v2), (3, .ref v3), (4, .int v4)]) h dL_law_1768 (by decide) rfl ?_
          refine r_aload_n h 4 dL_law_1770 rfl rfl ?_
          obtain ⟨k455, hf⟩ := hf
          refine c1582 hl h dL_law_1771 k455 hf (Nat.le_of_ble_eq_true rfl) (by omega) (by omega) (fun x457 M456 hf => ?_)
          refine r_iload h 1 dL_law_1774 rfl ?_
          refine r_icmp_eq (tgt := 1781) h dL_law_1776 (by decide) (fun c458 => ?_) (fun c458 => ?_)
          · have hf := ite_t c458 hf
            refine r_iload h 1 dL_law_1781 rfl ?_
            refine r_if_ne (tgt := 1798) h dL_law_1783 (by decide) (fun c459 => ?_) (fun c459 => ?_)
            · have hf := ite_f c459 hf
              refine r_goto (tgt := 2980) h dL_law_1798 (by decide) ?_
              refine r_iinc (v := v4 + 6) (lv' := [(4, .int (v4 + 6)), (6, .int x454), (5, .int x447), (0, .ref b), (1, .ref v1), (2, .ref v2), (3, .ref v3)]) h 6 dL_law_2980 rfl rfl (by decide) rfl ?_
              refine r_goto (tgt := 23) h dL_law_2983 (by decide) ?_
              exact V.sub [3, 4, 5, 6, 0] rfl hf
            · have hf := ite_t c459 hf
              refine r_aload_n h 5 dL_law_1786 rfl rfl ?_
              refine r_iconst (v := 0) h dL_law_1787 (by decide) ?_
              obtain ⟨j460, hf⟩ := hf
              refine r_laload h dL_law_1788 j460 ?_
              refine r_iload h 0 dL_law_1789 rfl ?_
              refine r_i2l h dL_law_1791 ?_
              refine r_lcmp h dL_law_1792 ?_
              refine r_if_eq (tgt := 1798) h dL_law_1793 (by decide) (fun c461 => ?_) (fun c461 => ?_)
              · have hf := ite_t c461 hf
                refine r_goto (tgt := 2980) h dL_law_1798 (by decide) ?_
                refine r_iinc (v := v4 + 6) (lv' := [(4, .int (v4 + 6)), (6, .int x454), (5, .int x447), (0, .ref b), (1, .ref v1), (2, .ref v2), (3, .ref v3)]) h 6 dL_law_2980 rfl rfl (by decide) rfl ?_
                refine r_goto (tgt := 23) h dL_law_2983 (by decide) ?_
                exact V.sub [3, 4, 5, 6, 0] rfl hf
              · have hf := ite_f c461 hf
                refine r_iconst (v := 0) h dL_law_1796 (by decide) ?_
                exact hf.elim
          · have hf := ite_f c458 hf
            refine r_iconst (v := 0) h dL_law_1779 (by decide) ?_
            exact hf.elim
        have hf := ite_f c439 hf
        by_cases c462 : ((xs (ix v4)) &&& 63) = 26
        · have hf := ite_t c462 hf
          refine r_tableIn (off := 1761) (tgt := 1801) h dL_law_40 (by rw [c462]; decide) (by rw [c462]; decide) (by rw [c462]; rfl) (by decide) ?_
          refine r_aload_n h 1 dL_law_1801 rfl rfl ?_
          refine r_aload_n h 0 dL_law_1802 rfl rfl ?_
          refine r_iload h 4 dL_law_1803 rfl ?_
          refine r_iconst (v := 1) h dL_law_1805 (by decide) ?_
          refine r_iadd h dL_law_1806 ?_
          obtain ⟨j463, hf⟩ := hf
          refine r_sld h hsc dL_law_1807 j463 ?_
          refine r_aload_n h 0 dL_law_1808 rfl rfl ?_
          refine r_iload h 4 dL_law_1809 rfl ?_
          refine r_iconst (v := 2) h dL_law_1811 (by decide) ?_
          refine r_iadd h dL_law_1812 ?_
          obtain ⟨j464, hf⟩ := hf
          refine r_sld h hsc dL_law_1813 j464 ?_
          refine r_aload_n h 3 dL_law_1814 rfl rfl ?_
          obtain ⟨h465, h466, hf⟩ := hf
          refine c1449 hl h dL_law_1815 hf (Nat.le_of_ble_eq_true rfl) (by omega) (by omega) h465 h466 (fun x468 M467 hf => ?_)
          refine r_istore (lv' := [(5, .int x468), (0, .ref b), (1, .ref v1), (2, .ref v2), (3, .ref v3), (4, .int v4)]) h dL_law_1818 (by decide) rfl ?_
          refine r_aload_n h 3 dL_law_1820 rfl rfl ?_
          refine r_aload_n h 1 dL_law_1821 rfl rfl ?_
          refine r_iload h 5 dL_law_1822 rfl ?_
          refine r_iconst (v := 1) h dL_law_1824 (by decide) ?_
          refine r_iadd h dL_law_1825 ?_
          obtain ⟨j469, hf⟩ := hf
          refine r_sld h hsc dL_law_1826 j469 ?_
          refine r_aload_n h 1 dL_law_1827 rfl rfl ?_
          refine r_iload h 5 dL_law_1828 rfl ?_
          refine r_iconst (v := 2) h dL_law_1830 (by decide) ?_
          refine r_iadd h dL_law_1831 ?_
          obtain ⟨j470, hf⟩ := hf
          refine r_sld h hsc dL_law_1832 j470 ?_
          obtain ⟨k471, hf⟩ := hf
          refine c2165 hl h dL_law_1833 k471 hf (Nat.le_of_ble_eq_true rfl) (by omega) (by omega) (fun x473 M472 hf => ?_)
          refine r_istore (lv' := [(6, .int x473), (5, .int x468), (0, .ref b), (1, .ref v1), (2, .ref v2), (3, .ref v3), (4, .int v4)]) h dL_law_1836 (by decide) rfl ?_
          refine r_aload_n h 4 dL_law_1838 rfl rfl ?_
          obtain ⟨k474, hf⟩ := hf
          refine c1582 hl h dL_law_1839 k474 hf (Nat.le_of_ble_eq_true rfl) (by omega) (by omega) (fun x476 M475 hf => ?_)
          refine r_iload h 1 dL_law_1842 rfl ?_
          refine r_icmp_eq (tgt := 1849) h dL_law_1844 (by decide) (fun c477 => ?_) (fun c477 => ?_)
          · have hf := ite_t c477 hf
            refine r_iload h 1 dL_law_1849 rfl ?_
            refine r_if_ne (tgt := 1866) h dL_law_1851 (by decide) (fun c478 => ?_) (fun c478 => ?_)
            · have hf := ite_f c478 hf
              refine r_goto (tgt := 2980) h dL_law_1866 (by decide) ?_
              refine r_iinc (v := v4 + 6) (lv' := [(4, .int (v4 + 6)), (6, .int x473), (5, .int x468), (0, .ref b), (1, .ref v1), (2, .ref v2), (3, .ref v3)]) h 6 dL_law_2980 rfl rfl (by decide) rfl ?_
              refine r_goto (tgt := 23) h dL_law_2983 (by decide) ?_
              exact V.sub [3, 4, 5, 6, 0] rfl hf
            · have hf := ite_t c478 hf
              refine r_aload_n h 5 dL_law_1854 rfl rfl ?_
              refine r_iconst (v := 0) h dL_law_1855 (by decide) ?_
              obtain ⟨j479, hf⟩ := hf
              refine r_laload h dL_law_1856 j479 ?_
              refine r_iload h 0 dL_law_1857 rfl ?_
              refine r_i2l h dL_law_1859 ?_
              refine r_lcmp h dL_law_1860 ?_
              refine r_if_eq (tgt := 1866) h dL_law_1861 (by decide) (fun c480 => ?_) (fun c480 => ?_)
              · have hf := ite_t c480 hf
                refine r_goto (tgt := 2980) h dL_law_1866 (by decide) ?_
                refine r_iinc (v := v4 + 6) (lv' := [(4, .int (v4 + 6)), (6, .int x473), (5, .int x468), (0, .ref b), (1, .ref v1), (2, .ref v2), (3, .ref v3)]) h 6 dL_law_2980 rfl rfl (by decide) rfl ?_
                refine r_goto (tgt := 23) h dL_law_2983 (by decide) ?_
                exact V.sub [3, 4, 5, 6, 0] rfl hf
              · have hf := ite_f c480 hf
                refine r_iconst (v := 0) h dL_law_1864 (by decide) ?_
                exact hf.elim
          · have hf := ite_f c477 hf
            refine r_iconst (v := 0) h dL_law_1847 (by decide) ?_
            exact hf.elim
        have hf := ite_f c462 hf
        by_cases c481 : ((xs (ix v4)) &&& 63) = 27
        · have hf := ite_t c481 hf
          refine r_tableIn (off := 1829) (tgt := 1869) h dL_law_40 (by rw [c481]; decide) (by rw [c481]; decide) (by rw [c481]; rfl) (by decide) ?_
          refine r_aload_n h 1 dL_law_1869 rfl rfl ?_
          refine r_aload_n h 0 dL_law_1870 rfl rfl ?_
          refine r_iload h 4 dL_law_1871 rfl ?_
          refine r_iconst (v := 1) h dL_law_1873 (by decide) ?_
          refine r_iadd h dL_law_1874 ?_
          obtain ⟨j482, hf⟩ := hf
          refine r_sld h hsc dL_law_1875 j482 ?_
          refine r_aload_n h 0 dL_law_1876 rfl rfl ?_
          refine r_iload h 4 dL_law_1877 rfl ?_
          refine r_iconst (v := 2) h dL_law_1879 (by decide) ?_
          refine r_iadd h dL_law_1880 ?_
          obtain ⟨j483, hf⟩ := hf
          refine r_sld h hsc dL_law_1881 j483 ?_
          refine r_aload_n h 0 dL_law_1882 rfl rfl ?_
          refine r_iload h 4 dL_law_1883 rfl ?_
          refine r_iconst (v := 3) h dL_law_1885 (by decide) ?_
          refine r_iadd h dL_law_1886 ?_
          obtain ⟨j484, hf⟩ := hf
          refine r_sld h hsc dL_law_1887 j484 ?_
          refine r_aload_n h 3 dL_law_1888 rfl rfl ?_
          obtain ⟨h485, h486, hf⟩ := hf
          refine c1460 hl h dL_law_1889 hf (Nat.le_of_ble_eq_true rfl) (by omega) (by omega) h485 h486 (fun x488 M487 hf => ?_)
          refine r_istore (lv' := [(5, .int x488), (0, .ref b), (1, .ref v1), (2, .ref v2), (3, .ref v3), (4, .int v4)]) h dL_law_1892 (by decide) rfl ?_
          refine r_aload_n h 3 dL_law_1894 rfl rfl ?_
          refine r_aload_n h 1 dL_law_1895 rfl rfl ?_
          refine r_iload h 5 dL_law_1896 rfl ?_
          refine r_iconst (v := 1) h dL_law_1898 (by decide) ?_
          refine r_iadd h dL_law_1899 ?_
          obtain ⟨j489, hf⟩ := hf
          refine r_sld h hsc dL_law_1900 j489 ?_
          refine r_aload_n h 1 dL_law_1901 rfl rfl ?_
          refine r_iload h 5 dL_law_1902 rfl ?_
          refine r_iconst (v := 2) h dL_law_1904 (by decide) ?_
          refine r_iadd h dL_law_1905 ?_
          obtain ⟨j490, hf⟩ := hf
          refine r_sld h hsc dL_law_1906 j490 ?_
          refine r_aload_n h 1 dL_law_1907 rfl rfl ?_
          refine r_iload h 5 dL_law_1908 rfl ?_
          refine r_iconst (v := 3) h dL_law_1910 (by decide) ?_
          refine r_iadd h dL_law_1911 ?_
          obtain ⟨j491, hf⟩ := hf
          refine r_sld h hsc dL_law_1912 j491 ?_
          obtain ⟨k492, hf⟩ := hf
          refine c2177 hl h dL_law_1913 k492 hf (Nat.le_of_ble_eq_true rfl) (by omega) (by omega) (fun x494 M493 hf => ?_)
          refine r_istore (lv' := [(6, .int x494), (5, .int x488), (0, .ref b), (1, .ref v1), (2, .ref v2), (3, .ref v3), (4, .int v4)]) h dL_law_1916 (by decide) rfl ?_
          refine r_aload_n h 4 dL_law_1918 rfl rfl ?_
          obtain ⟨k495, hf⟩ := hf
          refine c1582 hl h dL_law_1919 k495 hf (Nat.le_of_ble_eq_true rfl) (by omega) (by omega) (fun x497 M496 hf => ?_)
          refine r_iload h 1 dL_law_1922 rfl ?_
          refine r_icmp_eq (tgt := 1929) h dL_law_1924 (by decide) (fun c498 => ?_) (fun c498 => ?_)
          · have hf := ite_t c498 hf
            refine r_iload h 1 dL_law_1929 rfl ?_
            refine r_if_ne (tgt := 1953) h dL_law_1931 (by decide) (fun c499 => ?_) (fun c499 => ?_)
            · have hf := ite_f c499 hf
              refine r_goto (tgt := 2980) h dL_law_1953 (by decide) ?_
              refine r_iinc (v := v4 + 6) (lv' := [(4, .int (v4 + 6)), (6, .int x494), (5, .int x488), (0, .ref b), (1, .ref v1), (2, .ref v2), (3, .ref v3)]) h 6 dL_law_2980 rfl rfl (by decide) rfl ?_
              refine r_goto (tgt := 23) h dL_law_2983 (by decide) ?_
              exact V.sub [3, 4, 5, 6, 0] rfl hf
            · have hf := ite_t c499 hf
              refine r_aload_n h 5 dL_law_1934 rfl rfl ?_
              refine r_iconst (v := 0) h dL_law_1935 (by decide) ?_
              obtain ⟨j500, hf⟩ := hf
              refine r_laload h dL_law_1936 j500 ?_
              refine r_iload h 0 dL_law_1937 rfl ?_
              refine r_if_eq (tgt := 1946) h dL_law_1939 (by decide) (fun c501 => ?_) (fun c501 => ?_)
              · have hf := ite_t c501 hf
                refine r_lconst (v := 0) h dL_law_1946 rfl ?_
                exact V.sub [2, 3, 4, 5, 6] rfl hf
              · have hf := ite_f c501 hf
                refine r_lconst (v := 1) h dL_law_1942 rfl ?_
                refine r_goto (tgt := 1947) h dL_law_1943 (by decide) ?_
                exact V.sub [2, 3, 4, 5, 6] rfl hf
          · have hf := ite_f c498 hf
            refine r_iconst (v := 0) h dL_law_1927 (by decide) ?_
            exact hf.elim
        have hf := ite_f c481 hf
        by_cases c502 : ((xs (ix v4)) &&& 63) = 28
        · have hf := ite_t c502 hf
          refine r_tableIn (off := 1916) (tgt := 1956) h dL_law_40 (by rw [c502]; decide) (by rw [c502]; decide) (by rw [c502]; rfl) (by decide) ?_
          refine r_aload_n h 1 dL_law_1956 rfl rfl ?_
          obtain ⟨k503, hf⟩ := hf
          refine c749 hl h dL_law_1957 k503 hf (Nat.le_of_ble_eq_true rfl) (by omega) (by omega) (fun x505 M504 hf => ?_)
          refine r_aload_n h 2 dL_law_1960 rfl rfl ?_
          obtain ⟨k506, hf⟩ := hf
          refine c2188 hl h dL_law_1961 k506 hf (Nat.le_of_ble_eq_true rfl) (by omega) (by omega) (fun x508 M507 hf => ?_)
          refine r_icmp_eq (tgt := 2980) h dL_law_1964 (by decide) (fun c509 => ?_) (fun c509 => ?_)
          · have hf := ite_t c509 hf
            refine r_iinc (v := v4 + 6) (lv' := [(4, .int (v4 + 6)), (0, .ref b), (1, .ref v1), (2, .ref v2), (3, .ref v3)]) h 4 dL_law_2980 rfl rfl (by decide) rfl ?_
            refine r_goto (tgt := 23) h dL_law_2983 (by decide) ?_
            exact V.sub [1, 2, 3, 4, 0] rfl hf
          · have hf := ite_f c509 hf
            refine r_iconst (v := 0) h dL_law_1967 (by decide) ?_
            exact hf.elim
        have hf := ite_f c502 hf
        by_cases c510 : ((xs (ix v4)) &&& 63) = 29
        · have hf := ite_t c510 hf
          refine r_tableIn (off := 1929) (tgt := 1969) h dL_law_40 (by rw [c510]; decide) (by rw [c510]; decide) (by rw [c510]; rfl) (by decide) ?_
          refine r_aload_n h 1 dL_law_1969 rfl rfl ?_
          refine r_aload_n h 3 dL_law_1970 rfl rfl ?_
          obtain ⟨h511, h512, hf⟩ := hf
          refine c1467 hl h dL_law_1971 hf (Nat.le_of_ble_eq_true rfl) (by omega) (by omega) h511 h512 (fun x514 M513 hf => ?_)
          refine r_istore (lv' := [(5, .int x514), (0, .ref b), (1, .ref v1), (2, .ref v2), (3, .ref v3), (4, .int v4)]) h dL_law_1974 (by decide) rfl ?_
          refine r_aload_n h 3 dL_law_1976 rfl rfl ?_
          obtain ⟨k515, hf⟩ := hf
          refine c2193 hl h dL_law_1977 k515 hf (Nat.le_of_ble_eq_true rfl) (by omega) (by omega) (fun x517 M516 hf => ?_)
          refine r_istore (lv' := [(6, .int x517), (5, .int x514), (0, .ref b), (1, .ref v1), (2, .ref v2), (3, .ref v3), (4, .int v4)]) h dL_law_1980 (by decide) rfl ?_
          refine r_aload_n h 4 dL_law_1982 rfl rfl ?_
          obtain ⟨k518, hf⟩ := hf
          refine c1582 hl h dL_law_1983 k518 hf (Nat.le_of_ble_eq_true rfl) (by omega) (by omega) (fun x520 M519 hf => ?_)
          refine r_iload h 1 dL_law_1986 rfl ?_
          refine r_icmp_eq (tgt := 1993) h dL_law_1988 (by decide) (fun c521 => ?_) (fun c521 => ?_)
          · have hf := ite_t c521 hf
            refine r_iload h 1 dL_law_1993 rfl ?_
            refine r_if_ne (tgt := 2010) h dL_law_1995 (by decide) (fun c522 => ?_) (fun c522 => ?_)
            · have hf := ite_f c522 hf
              refine r_goto (tgt := 2980) h dL_law_2010 (by decide) ?_
              refine r_iinc (v := v4 + 6) (lv' := [(4, .int (v4 + 6)), (6, .int x517), (5, .int x514), (0, .ref b), (1, .ref v1), (2, .ref v2), (3, .ref v3)]) h 6 dL_law_2980 rfl rfl (by decide) rfl ?_
              refine r_goto (tgt := 23) h dL_law_2983 (by decide) ?_
              exact V.sub [3, 4, 5, 6, 0] rfl hf
            · have hf := ite_t c522 hf
              refine r_aload_n h 5 dL_law_1998 rfl rfl ?_
              refine r_iconst (v := 0) h dL_law_1999 (by decide) ?_
              obtain ⟨j523, hf⟩ := hf
              refine r_laload h dL_law_2000 j523 ?_
              refine r_iload h 0 dL_law_2001 rfl ?_
              refine r_i2l h dL_law_2003 ?_
              refine r_lcmp h dL_law_2004 ?_
              refine r_if_eq (tgt := 2010) h dL_law_2005 (by decide) (fun c524 => ?_) (fun c524 => ?_)
              · have hf := ite_t c524 hf
                refine r_goto (tgt := 2980) h dL_law_2010 (by decide) ?_
                refine r_iinc (v := v4 + 6) (lv' := [(4, .int (v4 + 6)), (6, .int x517), (5, .int x514), (0, .ref b), (1, .ref v1), (2, .ref v2), (3, .ref v3)]) h 6 dL_law_2980 rfl rfl (by decide) rfl ?_
                refine r_goto (tgt := 23) h dL_law_2983 (by decide) ?_
                exact V.sub [3, 4, 5, 6, 0] rfl hf
              · have hf := ite_f c524 hf
                refine r_iconst (v := 0) h dL_law_2008 (by decide) ?_
                exact hf.elim
          · have hf := ite_f c521 hf
            refine r_iconst (v := 0) h dL_law_1991 (by decide) ?_
            exact hf.elim
        have hf := ite_f c510 hf
        by_cases c525 : ((xs (ix v4)) &&& 63) = 30
        · have hf := ite_t c525 hf
          refine r_tableIn (off := 1973) (tgt := 2013) h dL_law_40 (by rw [c525]; decide) (by rw [c525]; decide) (by rw [c525]; rfl) (by decide) ?_
          refine r_aload_n h 1 dL_law_2013 rfl rfl ?_
          refine r_aload_n h 0 dL_law_2014 rfl rfl ?_
          refine r_iload h 4 dL_law_2015 rfl ?_
          refine r_iconst (v := 1) h dL_law_2017 (by decide) ?_
          refine r_iadd h dL_law_2018 ?_
          obtain ⟨j526, hf⟩ := hf
          refine r_sld h hsc dL_law_2019 j526 ?_
          refine r_aload_n h 0 dL_law_2020 rfl rfl ?_
          refine r_iload h 4 dL_law_2021 rfl ?_
          refine r_iconst (v := 2) h dL_law_2023 (by decide) ?_
          refine r_iadd h dL_law_2024 ?_
          obtain ⟨j527, hf⟩ := hf
          refine r_sld h hsc dL_law_2025 j527 ?_
          refine r_aload_n h 0 dL_law_2026 rfl rfl ?_
          refine r_iload h 4 dL_law_2027 rfl ?_
          refine r_iconst (v := 3) h dL_law_2029 (by decide) ?_
          refine r_iadd h dL_law_2030 ?_
          obtain ⟨j528, hf⟩ := hf
          refine r_sld h hsc dL_law_2031 j528 ?_
          refine r_if_eq (tgt := 2039) h dL_law_2032 (by decide) (fun c529 => ?_) (fun c529 => ?_)
          · have hf := ite_t c529 hf
            refine r_iconst (v := 0) h dL_law_2039 (by decide) ?_
            exact V.sub [0, 1, 2, 3, 4] rfl hf
          · have hf := ite_f c529 hf
            refine r_iconst (v := 1) h dL_law_2035 (by decide) ?_
            refine r_goto (tgt := 2040) h dL_law_2036 (by decide) ?_
            exact V.sub [0, 1, 2, 3, 4] rfl hf
        have hf := ite_f c525 hf
        by_cases c530 : ((xs (ix v4)) &&& 63) = 31
        · have hf := ite_t c530 hf
          refine r_tableIn (off := 2069) (tgt := 2109) h dL_law_40 (by rw [c530]; decide) (by rw [c530]; decide) (by rw [c530]; rfl) (by decide) ?_
          refine r_aload_n h 1 dL_law_2109 rfl rfl ?_
          refine r_aload_n h 0 dL_law_2110 rfl rfl ?_
          refine r_iload h 4 dL_law_2111 rfl ?_
          refine r_iconst (v := 1) h dL_law_2113 (by decide) ?_
          refine r_iadd h dL_law_2114 ?_
          obtain ⟨j531, hf⟩ := hf
          refine r_sld h hsc dL_law_2115 j531 ?_
          refine r_aload_n h 0 dL_law_2116 rfl rfl ?_
          refine r_iload h 4 dL_law_2117 rfl ?_
          refine r_iconst (v := 2) h dL_law_2119 (by decide) ?_
          refine r_iadd h dL_law_2120 ?_
          obtain ⟨j532, hf⟩ := hf
          refine r_sld h hsc dL_law_2121 j532 ?_
          refine r_aload_n h 0 dL_law_2122 rfl rfl ?_
          refine r_iload h 4 dL_law_2123 rfl ?_
          refine r_iconst (v := 3) h dL_law_2125 (by decide) ?_
          refine r_iadd h dL_law_2126 ?_
          obtain ⟨j533, hf⟩ := hf
          refine r_sld h hsc dL_law_2127 j533 ?_
          refine r_aload_n h 3 dL_law_2128 rfl rfl ?_
          obtain ⟨h534, h535, hf⟩ := hf
          refine c1497 hl h dL_law_2129 hf (Nat.le_of_ble_eq_true rfl) (by omega) (by omega) h534 h535 (fun x537 M536 hf => ?_)
          refine r_istore (lv' := [(5, .int x537), (0, .ref b), (1, .ref v1), (2, .ref v2), (3, .ref v3), (4, .int v4)]) h dL_law_2132 (by decide) rfl ?_
          refine r_aload_n h 3 dL_law_2134 rfl rfl ?_
          refine r_aload_n h 1 dL_law_2135 rfl rfl ?_
          refine r_iload h 5 dL_law_2136 rfl ?_
          refine r_iconst (v := 1) h dL_law_2138 (by decide) ?_
          refine r_iadd h dL_law_2139 ?_
          obtain ⟨j538, hf⟩ := hf
          refine r_sld h hsc dL_law_2140 j538 ?_
          refine r_aload_n h 1 dL_law_2141 rfl rfl ?_
          refine r_iload h 5 dL_law_2142 rfl ?_
          refine r_iconst (v := 2) h dL_law_2144 (by decide) ?_
          refine r_iadd h dL_law_2145 ?_
          obtain ⟨j539, hf⟩ := hf
          refine r_sld h hsc dL_law_2146 j539 ?_
          refine r_aload_n h 1 dL_law_2147 rfl rfl ?_
          refine r_iload h 5 dL_law_2148 rfl ?_
          refine r_iconst (v := 3) h dL_law_2150 (by decide) ?_
          refine r_iadd h dL_law_2151 ?_
          obtain ⟨j540, hf⟩ := hf
          refine r_sld h hsc dL_law_2152 j540 ?_
          obtain ⟨k541, hf⟩ := hf
          refine c2216 hl h dL_law_2153 k541 hf (Nat.le_of_ble_eq_true rfl) (by omega) (by omega) (fun x543 M542 hf => ?_)
          refine r_istore (lv' := [(6, .int x543), (5, .int x537), (0, .ref b), (1, .ref v1), (2, .ref v2), (3, .ref v3), (4, .int v4)]) h dL_law_2156 (by decide) rfl ?_
          refine r_aload_n h 4 dL_law_2158 rfl rfl ?_
          obtain ⟨k544, hf⟩ := hf
          refine c1582 hl h dL_law_2159 k544 hf (Nat.le_of_ble_eq_true rfl) (by omega) (by omega) (fun x546 M545 hf => ?_)
          refine r_iload h 1 dL_law_2162 rfl ?_
          refine r_icmp_eq (tgt := 2169) h dL_law_2164 (by decide) (fun c547 => ?_) (fun c547 => ?_)
          · have hf := ite_t c547 hf
            refine r_iload h 1 dL_law_2169 rfl ?_
            refine r_if_ne (tgt := 2186) h dL_law_2171 (by decide) (fun c548 => ?_) (fun c548 => ?_)
            · have hf := ite_f c548 hf
              refine r_goto (tgt := 2980) h dL_law_2186 (by decide) ?_
              refine r_iinc (v := v4 + 6) (lv' := [(4, .int (v4 + 6)), (6, .int x543), (5, .int x537), (0, .ref b), (1, .ref v1), (2, .ref v2), (3, .ref v3)]) h 6 dL_law_2980 rfl rfl (by decide) rfl ?_
              refine r_goto (tgt := 23) h dL_law_2983 (by decide) ?_
              exact V.sub [3, 4, 5, 6, 0] rfl hf
            · have hf := ite_t c548 hf
              refine r_aload_n h 5 dL_law_2174 rfl rfl ?_
              refine r_iconst (v := 0) h dL_law_2175 (by decide) ?_
              obtain ⟨j549, hf⟩ := hf
              refine r_laload h dL_law_2176 j549 ?_
              refine r_iload h 0 dL_law_2177 rfl ?_
              refine r_i2l h dL_law_2179 ?_
              refine r_lcmp h dL_law_2180 ?_
              refine r_if_eq (tgt := 2186) h dL_law_2181 (by decide) (fun c550 => ?_) (fun c550 => ?_)
              · have hf := ite_t c550 hf
                refine r_goto (tgt := 2980) h dL_law_2186 (by decide) ?_
                refine r_iinc (v := v4 + 6) (lv' := [(4, .int (v4 + 6)), (6, .int x543), (5, .int x537), (0, .ref b), (1, .ref v1), (2, .ref v2), (3, .ref v3)]) h 6 dL_law_2980 rfl rfl (by decide) rfl ?_
                refine r_goto (tgt := 23) h dL_law_2983 (by decide) ?_
                exact V.sub [3, 4, 5, 6, 0] rfl hf
              · have hf := ite_f c550 hf
                refine r_iconst (v := 0) h dL_law_2184 (by decide) ?_
                exact hf.elim
          · have hf := ite_f c547 hf
            refine r_iconst (v := 0) h dL_law_2167 (by decide) ?_
            exact hf.elim
        have hf := ite_f c530 hf
        by_cases c551 : ((xs (ix v4)) &&& 63) = 32
        · have hf := ite_t c551 hf
          refine r_tableIn (off := 2149) (tgt := 2189) h dL_law_40 (by rw [c551]; decide) (by rw [c551]; decide) (by rw [c551]; rfl) (by decide) ?_
          refine r_aload_n h 1 dL_law_2189 rfl rfl ?_
          refine r_aload_n h 0 dL_law_2190 rfl rfl ?_
          refine r_iload h 4 dL_law_2191 rfl ?_
          refine r_iconst (v := 1) h dL_law_2193 (by decide) ?_
          refine r_iadd h dL_law_2194 ?_
          obtain ⟨j552, hf⟩ := hf
          refine r_sld h hsc dL_law_2195 j552 ?_
          refine r_aload_n h 0 dL_law_2196 rfl rfl ?_
          refine r_iload h 4 dL_law_2197 rfl ?_
          refine r_iconst (v := 2) h dL_law_2199 (by decide) ?_
          refine r_iadd h dL_law_2200 ?_
          obtain ⟨j553, hf⟩ := hf
          refine r_sld h hsc dL_law_2201 j553 ?_
          refine r_aload_n h 3 dL_law_2202 rfl rfl ?_
          obtain ⟨h554, h555, hf⟩ := hf
          refine c1508 hl h dL_law_2203 hf (Nat.le_of_ble_eq_true rfl) (by omega) (by omega) h554 h555 (fun x557 M556 hf => ?_)
          refine r_istore (lv' := [(5, .int x557), (0, .ref b), (1, .ref v1), (2, .ref v2), (3, .ref v3), (4, .int v4)]) h dL_law_2206 (by decide) rfl ?_
          refine r_aload_n h 3 dL_law_2208 rfl rfl ?_
          refine r_aload_n h 1 dL_law_2209 rfl rfl ?_
          refine r_iload h 5 dL_law_2210 rfl ?_
          refine r_iconst (v := 1) h dL_law_2212 (by decide) ?_
          refine r_iadd h dL_law_2213 ?_
          obtain ⟨j558, hf⟩ := hf
          refine r_sld h hsc dL_law_2214 j558 ?_
          refine r_aload_n h 1 dL_law_2215 rfl rfl ?_
          refine r_iload h 5 dL_law_2216 rfl ?_
          refine r_iconst (v := 2) h dL_law_2218 (by decide) ?_
          refine r_iadd h dL_law_2219 ?_
          obtain ⟨j559, hf⟩ := hf
          refine r_sld h hsc dL_law_2220 j559 ?_
          obtain ⟨k560, hf⟩ := hf
          refine c2224 hl h dL_law_2221 k560 hf (Nat.le_of_ble_eq_true rfl) (by omega) (by omega) (fun x562 M561 hf => ?_)
          refine r_istore (lv' := [(6, .int x562), (5, .int x557), (0, .ref b), (1, .ref v1), (2, .ref v2), (3, .ref v3), (4, .int v4)]) h dL_law_2224 (by decide) rfl ?_
          refine r_aload_n h 4 dL_law_2226 rfl rfl ?_
          obtain ⟨k563, hf⟩ := hf
          refine c1582 hl h dL_law_2227 k563 hf (Nat.le_of_ble_eq_true rfl) (by omega) (by omega) (fun x565 M564 hf => ?_)
          refine r_iload h 1 dL_law_2230 rfl ?_
          refine r_icmp_eq (tgt := 2237) h dL_law_2232 (by decide) (fun c566 => ?_) (fun c566 => ?_)
          · have hf := ite_t c566 hf
            refine r_iload h 1 dL_law_2237 rfl ?_
            refine r_if_ne (tgt := 2254) h dL_law_2239 (by decide) (fun c567 => ?_) (fun c567 => ?_)
            · have hf := ite_f c567 hf
              refine r_goto (tgt := 2980) h dL_law_2254 (by decide) ?_
              refine r_iinc (v := v4 + 6) (lv' := [(4, .int (v4 + 6)), (6, .int x562), (5, .int x557), (0, .ref b), (1, .ref v1), (2, .ref v2), (3, .ref v3)]) h 6 dL_law_2980 rfl rfl (by decide) rfl ?_
              refine r_goto (tgt := 23) h dL_law_2983 (by decide) ?_
              exact V.sub [3, 4, 5, 6, 0] rfl hf
            · have hf := ite_t c567 hf
              refine r_aload_n h 5 dL_law_2242 rfl rfl ?_
              refine r_iconst (v := 0) h dL_law_2243 (by decide) ?_
              obtain ⟨j568, hf⟩ := hf
              refine r_laload h dL_law_2244 j568 ?_
              refine r_iload h 0 dL_law_2245 rfl ?_
              refine r_i2l h dL_law_2247 ?_
              refine r_lcmp h dL_law_2248 ?_
              refine r_if_eq (tgt := 2254) h dL_law_2249 (by decide) (fun c569 => ?_) (fun c569 => ?_)
              · have hf := ite_t c569 hf
                refine r_goto (tgt := 2980) h dL_law_2254 (by decide) ?_
                refine r_iinc (v := v4 + 6) (lv' := [(4, .int (v4 + 6)), (6, .int x562), (5, .int x557), (0, .ref b), (1, .ref v1), (2, .ref v2), (3, .ref v3)]) h 6 dL_law_2980 rfl rfl (by decide) rfl ?_
                refine r_goto (tgt := 23) h dL_law_2983 (by decide) ?_
                exact V.sub [3, 4, 5, 6, 0] rfl hf
              · have hf := ite_f c569 hf
                refine r_iconst (v := 0) h dL_law_2252 (by decide) ?_
                exact hf.elim
          · have hf := ite_f c566 hf
            refine r_iconst (v := 0) h dL_law_2235 (by decide) ?_
            exact hf.elim
        have hf := ite_f c551 hf
        by_cases c570 : ((xs (ix v4)) &&& 63) = 33
        · have hf := ite_t c570 hf
          refine r_tableIn (off := 2217) (tgt := 2257) h dL_law_40 (by rw [c570]; decide) (by rw [c570]; decide) (by rw [c570]; rfl) (by decide) ?_
          refine r_aload_n h 1 dL_law_2257 rfl rfl ?_
          refine r_aload_n h 0 dL_law_2258 rfl rfl ?_
          refine r_iload h 4 dL_law_2259 rfl ?_
          refine r_iconst (v := 1) h dL_law_2261 (by decide) ?_
          refine r_iadd h dL_law_2262 ?_
          obtain ⟨j571, hf⟩ := hf
          refine r_sld h hsc dL_law_2263 j571 ?_
          refine r_aload_n h 0 dL_law_2264 rfl rfl ?_
          refine r_iload h 4 dL_law_2265 rfl ?_
          refine r_iconst (v := 2) h dL_law_2267 (by decide) ?_
          refine r_iadd h dL_law_2268 ?_
          obtain ⟨j572, hf⟩ := hf
          refine r_sld h hsc dL_law_2269 j572 ?_
          refine r_if_eq (tgt := 2277) h dL_law_2270 (by decide) (fun c573 => ?_) (fun c573 => ?_)
          · have hf := ite_t c573 hf
            refine r_iconst (v := 0) h dL_law_2277 (by decide) ?_
            exact V.sub [0, 1, 2, 3, 4] rfl hf
          · have hf := ite_f c573 hf
            refine r_iconst (v := 1) h dL_law_2273 (by decide) ?_
            refine r_goto (tgt := 2278) h dL_law_2274 (by decide) ?_
            exact V.sub [0, 1, 2, 3, 4] rfl hf
        have hf := ite_f c570 hf
        by_cases c574 : ((xs (ix v4)) &&& 63) = 34
        · have hf := ite_t c574 hf
          refine r_tableIn (off := 2301) (tgt := 2341) h dL_law_40 (by rw [c574]; decide) (by rw [c574]; decide) (by rw [c574]; rfl) (by decide) ?_
          refine r_aload_n h 1 dL_law_2341 rfl rfl ?_
          refine r_aload_n h 0 dL_law_2342 rfl rfl ?_
          refine r_iload h 4 dL_law_2343 rfl ?_
          refine r_iconst (v := 1) h dL_law_2345 (by decide) ?_
          refine r_iadd h dL_law_2346 ?_
          obtain ⟨j575, hf⟩ := hf
          refine r_sld h hsc dL_law_2347 j575 ?_
          refine r_aload_n h 0 dL_law_2348 rfl rfl ?_
          refine r_iload h 4 dL_law_2349 rfl ?_
          refine r_iconst (v := 2) h dL_law_2351 (by decide) ?_
          refine r_iadd h dL_law_2352 ?_
          obtain ⟨j576, hf⟩ := hf
          refine r_sld h hsc dL_law_2353 j576 ?_
          refine r_if_eq (tgt := 2361) h dL_law_2354 (by decide) (fun c577 => ?_) (fun c577 => ?_)
          · have hf := ite_t c577 hf
            refine r_iconst (v := 0) h dL_law_2361 (by decide) ?_
            exact V.sub [0, 1, 2, 3, 4] rfl hf
          · have hf := ite_f c577 hf
            refine r_iconst (v := 1) h dL_law_2357 (by decide) ?_
            refine r_goto (tgt := 2362) h dL_law_2358 (by decide) ?_
            exact V.sub [0, 1, 2, 3, 4] rfl hf
        have hf := ite_f c574 hf
        by_cases c578 : ((xs (ix v4)) &&& 63) = 35
        · have hf := ite_t c578 hf
          refine r_tableIn (off := 2385) (tgt := 2425) h dL_law_40 (by rw [c578]; decide) (by rw [c578]; decide) (by rw [c578]; rfl) (by decide) ?_
          refine r_aload_n h 1 dL_law_2425 rfl rfl ?_
          refine r_aload_n h 0 dL_law_2426 rfl rfl ?_
          refine r_iload h 4 dL_law_2427 rfl ?_
          refine r_iconst (v := 1) h dL_law_2429 (by decide) ?_
          refine r_iadd h dL_law_2430 ?_
          obtain ⟨j579, hf⟩ := hf
          refine r_sld h hsc dL_law_2431 j579 ?_
          refine r_aload_n h 0 dL_law_2432 rfl rfl ?_
          refine r_iload h 4 dL_law_2433 rfl ?_
          refine r_iconst (v := 2) h dL_law_2435 (by decide) ?_
          refine r_iadd h dL_law_2436 ?_
          obtain ⟨j580, hf⟩ := hf
          refine r_sld h hsc dL_law_2437 j580 ?_
          refine r_aload_n h 3 dL_law_2438 rfl rfl ?_
          obtain ⟨h581, h582, hf⟩ := hf
          refine c1533 hl h dL_law_2439 hf (Nat.le_of_ble_eq_true rfl) (by omega) (by omega) h581 h582 (fun x584 M583 hf => ?_)
          refine r_istore (lv' := [(5, .int x584), (0, .ref b), (1, .ref v1), (2, .ref v2), (3, .ref v3), (4, .int v4)]) h dL_law_2442 (by decide) rfl ?_
          refine r_aload_n h 3 dL_law_2444 rfl rfl ?_
          refine r_aload_n h 1 dL_law_2445 rfl rfl ?_
          refine r_iload h 5 dL_law_2446 rfl ?_
          refine r_iconst (v := 1) h dL_law_2448 (by decide) ?_
          refine r_iadd h dL_law_2449 ?_
          obtain ⟨j585, hf⟩ := hf
          refine r_sld h hsc dL_law_2450 j585 ?_
          refine r_aload_n h 1 dL_law_2451 rfl rfl ?_
          refine r_iload h 5 dL_law_2452 rfl ?_
          refine r_iconst (v := 2) h dL_law_2454 (by decide) ?_
          refine r_iadd h dL_law_2455 ?_
          obtain ⟨j586, hf⟩ := hf
          refine r_sld h hsc dL_law_2456 j586 ?_
          obtain ⟨k587, hf⟩ := hf
          refine c2240 hl h dL_law_2457 k587 hf (Nat.le_of_ble_eq_true rfl) (by omega) (by omega) (fun x589 M588 hf => ?_)
          refine r_istore (lv' := [(6, .int x589), (5, .int x584), (0, .ref b), (1, .ref v1), (2, .ref v2), (3, .ref v3), (4, .int v4)]) h dL_law_2460 (by decide) rfl ?_
          refine r_aload_n h 4 dL_law_2462 rfl rfl ?_
          obtain ⟨k590, hf⟩ := hf
          refine c1582 hl h dL_law_2463 k590 hf (Nat.le_of_ble_eq_true rfl) (by omega) (by omega) (fun x592 M591 hf => ?_)
          refine r_iload h 1 dL_law_2466 rfl ?_
          refine r_icmp_eq (tgt := 2473) h dL_law_2468 (by decide) (fun c593 => ?_) (fun c593 => ?_)
          · have hf := ite_t c593 hf
            refine r_iload h 1 dL_law_2473 rfl ?_
            refine r_if_ne (tgt := 2490) h dL_law_2475 (by decide) (fun c594 => ?_) (fun c594 => ?_)
            · have hf := ite_f c594 hf
              refine r_goto (tgt := 2980) h dL_law_2490 (by decide) ?_
              refine r_iinc (v := v4 + 6) (lv' := [(4, .int (v4 + 6)), (6, .int x589), (5, .int x584), (0, .ref b), (1, .ref v1), (2, .ref v2), (3, .ref v3)]) h 6 dL_law_2980 rfl rfl (by decide) rfl ?_
              refine r_goto (tgt := 23) h dL_law_2983 (by decide) ?_
              exact V.sub [3, 4, 5, 6, 0] rfl hf
            · have hf := ite_t c594 hf
              refine r_aload_n h 5 dL_law_2478 rfl rfl ?_
              refine r_iconst (v := 0) h dL_law_2479 (by decide) ?_
              obtain ⟨j595, hf⟩ := hf
              refine r_laload h dL_law_2480 j595 ?_
              refine r_iload h 0 dL_law_2481 rfl ?_
              refine r_i2l h dL_law_2483 ?_
              refine r_lcmp h dL_law_2484 ?_
              refine r_if_eq (tgt := 2490) h dL_law_2485 (by decide) (fun c596 => ?_) (fun c596 => ?_)
              · have hf := ite_t c596 hf
                refine r_goto (tgt := 2980) h dL_law_2490 (by decide) ?_
                refine r_iinc (v := v4 + 6) (lv' := [(4, .int (v4 + 6)), (6, .int x589), (5, .int x584), (0, .ref b), (1, .ref v1), (2, .ref v2), (3, .ref v3)]) h 6 dL_law_2980 rfl rfl (by decide) rfl ?_
                refine r_goto (tgt := 23) h dL_law_2983 (by decide) ?_
                exact V.sub [3, 4, 5, 6, 0] rfl hf
              · have hf := ite_f c596 hf
                refine r_iconst (v := 0) h dL_law_2488 (by decide) ?_
                exact hf.elim
          · have hf := ite_f c593 hf
            refine r_iconst (v := 0) h dL_law_2471 (by decide) ?_
            exact hf.elim
        have hf := ite_f c578 hf
        by_cases c597 : ((xs (ix v4)) &&& 63) = 36
        · have hf := ite_t c597 hf
          refine r_tableIn (off := 2453) (tgt := 2493) h dL_law_40 (by rw [c597]; decide) (by rw [c597]; decide) (by rw [c597]; rfl) (by decide) ?_
          refine r_aload_n h 1 dL_law_2493 rfl rfl ?_
          refine r_aload_n h 0 dL_law_2494 rfl rfl ?_
          refine r_iload h 4 dL_law_2495 rfl ?_
          refine r_iconst (v := 1) h dL_law_2497 (by decide) ?_
          refine r_iadd h dL_law_2498 ?_
          obtain ⟨j598, hf⟩ := hf
          refine r_sld h hsc dL_law_2499 j598 ?_
          refine r_aload_n h 3 dL_law_2500 rfl rfl ?_
          obtain ⟨h599, h600, hf⟩ := hf
          refine c1540 hl h dL_law_2501 hf (Nat.le_of_ble_eq_true rfl) (by omega) (by omega) h599 h600 (fun x602 M601 hf => ?_)
          refine r_istore (lv' := [(5, .int x602), (0, .ref b), (1, .ref v1), (2, .ref v2), (3, .ref v3), (4, .int v4)]) h dL_law_2504 (by decide) rfl ?_
          refine r_aload_n h 3 dL_law_2506 rfl rfl ?_
          refine r_aload_n h 1 dL_law_2507 rfl rfl ?_
          refine r_iload h 5 dL_law_2508 rfl ?_
          refine r_iconst (v := 1) h dL_law_2510 (by decide) ?_
          refine r_iadd h dL_law_2511 ?_
          obtain ⟨j603, hf⟩ := hf
          refine r_sld h hsc dL_law_2512 j603 ?_
          obtain ⟨k604, hf⟩ := hf
          refine c2244 hl h dL_law_2513 k604 hf (Nat.le_of_ble_eq_true rfl) (by omega) (by omega) (fun x606 M605 hf => ?_)
          refine r_istore (lv' := [(6, .int x606), (5, .int x602), (0, .ref b), (1, .ref v1), (2, .ref v2), (3, .ref v3), (4, .int v4)]) h dL_law_2516 (by decide) rfl ?_
          refine r_aload_n h 4 dL_law_2518 rfl rfl ?_
          obtain ⟨k607, hf⟩ := hf
          refine c1582 hl h dL_law_2519 k607 hf (Nat.le_of_ble_eq_true rfl) (by omega) (by omega) (fun x609 M608 hf => ?_)
          refine r_iload h 1 dL_law_2522 rfl ?_
          refine r_icmp_eq (tgt := 2529) h dL_law_2524 (by decide) (fun c610 => ?_) (fun c610 => ?_)
          · have hf := ite_t c610 hf
            refine r_iload h 1 dL_law_2529 rfl ?_
            refine r_if_ne (tgt := 2546) h dL_law_2531 (by decide) (fun c611 => ?_) (fun c611 => ?_)
            · have hf := ite_f c611 hf
              refine r_goto (tgt := 2980) h dL_law_2546 (by decide) ?_
              refine r_iinc (v := v4 + 6) (lv' := [(4, .int (v4 + 6)), (6, .int x606), (5, .int x602), (0, .ref b), (1, .ref v1), (2, .ref v2), (3, .ref v3)]) h 6 dL_law_2980 rfl rfl (by decide) rfl ?_
              refine r_goto (tgt := 23) h dL_law_2983 (by decide) ?_
              exact V.sub [3, 4, 5, 6, 0] rfl hf
            · have hf := ite_t c611 hf
              refine r_aload_n h 5 dL_law_2534 rfl rfl ?_
              refine r_iconst (v := 0) h dL_law_2535 (by decide) ?_
              obtain ⟨j612, hf⟩ := hf
              refine r_laload h dL_law_2536 j612 ?_
              refine r_iload h 0 dL_law_2537 rfl ?_
              refine r_i2l h dL_law_2539 ?_
              refine r_lcmp h dL_law_2540 ?_
              refine r_if_eq (tgt := 2546) h dL_law_2541 (by decide) (fun c613 => ?_) (fun c613 => ?_)
              · have hf := ite_t c613 hf
                refine r_goto (tgt := 2980) h dL_law_2546 (by decide) ?_
                refine r_iinc (v := v4 + 6) (lv' := [(4, .int (v4 + 6)), (6, .int x606), (5, .int x602), (0, .ref b), (1, .ref v1), (2, .ref v2), (3, .ref v3)]) h 6 dL_law_2980 rfl rfl (by decide) rfl ?_
                refine r_goto (tgt := 23) h dL_law_2983 (by decide) ?_
                exact V.sub [3, 4, 5, 6, 0] rfl hf
              · have hf := ite_f c613 hf
                refine r_iconst (v := 0) h dL_law_2544 (by decide) ?_
                exact hf.elim
          · have hf := ite_f c610 hf
            refine r_iconst (v := 0) h dL_law_2527 (by decide) ?_
            exact hf.elim
        have hf := ite_f c597 hf
        by_cases c614 : ((xs (ix v4)) &&& 63) = 37
        · have hf := ite_t c614 hf
          refine r_tableIn (off := 2509) (tgt := 2549) h dL_law_40 (by rw [c614]; decide) (by rw [c614]; decide) (by rw [c614]; rfl) (by decide) ?_
          refine r_aload_n h 1 dL_law_2549 rfl rfl ?_
          refine r_aload_n h 0 dL_law_2550 rfl rfl ?_
          refine r_iload h 4 dL_law_2551 rfl ?_
          refine r_iconst (v := 1) h dL_law_2553 (by decide) ?_
          refine r_iadd h dL_law_2554 ?_
          obtain ⟨j615, hf⟩ := hf
          refine r_sld h hsc dL_law_2555 j615 ?_
          obtain ⟨k616, hf⟩ := hf
          refine c763 hl h dL_law_2556 k616 hf (Nat.le_of_ble_eq_true rfl) (by omega) (by omega) (fun x618 M617 hf => ?_)
          refine r_aload_n h 2 dL_law_2559 rfl rfl ?_
          refine r_aload_n h 0 dL_law_2560 rfl rfl ?_
          refine r_iload h 4 dL_law_2561 rfl ?_
          refine r_iconst (v := 1) h dL_law_2563 (by decide) ?_
          refine r_iadd h dL_law_2564 ?_
          obtain ⟨j619, hf⟩ := hf
          refine r_sld h hsc dL_law_2565 j619 ?_
          obtain ⟨k620, hf⟩ := hf
          refine c2248 hl h dL_law_2566 k620 hf (Nat.le_of_ble_eq_true rfl) (by omega) (by omega) (fun x622 M621 hf => ?_)
          refine r_icmp_eq (tgt := 2980) h dL_law_2569 (by decide) (fun c623 => ?_) (fun c623 => ?_)
          · have hf := ite_t c623 hf
            refine r_iinc (v := v4 + 6) (lv' := [(4, .int (v4 + 6)), (0, .ref b), (1, .ref v1), (2, .ref v2), (3, .ref v3)]) h 4 dL_law_2980 rfl rfl (by decide) rfl ?_
            refine r_goto (tgt := 23) h dL_law_2983 (by decide) ?_
            exact V.sub [1, 2, 3, 4, 0] rfl hf
          · have hf := ite_f c623 hf
            refine r_iconst (v := 0) h dL_law_2572 (by decide) ?_
            exact hf.elim
        have hf := ite_f c614 hf
        by_cases c624 : ((xs (ix v4)) &&& 63) = 38
        · have hf := ite_t c624 hf
          refine r_tableIn (off := 2534) (tgt := 2574) h dL_law_40 (by rw [c624]; decide) (by rw [c624]; decide) (by rw [c624]; rfl) (by decide) ?_
          refine r_aload_n h 1 dL_law_2574 rfl rfl ?_
          refine r_aload_n h 0 dL_law_2575 rfl rfl ?_
          refine r_iload h 4 dL_law_2576 rfl ?_
          refine r_iconst (v := 1) h dL_law_2578 (by decide) ?_
          refine r_iadd h dL_law_2579 ?_
          obtain ⟨j625, hf⟩ := hf
          refine r_sld h hsc dL_law_2580 j625 ?_
          refine r_aload_n h 0 dL_law_2581 rfl rfl ?_
          refine r_iload h 4 dL_law_2582 rfl ?_
          refine r_iconst (v := 2) h dL_law_2584 (by decide) ?_
          refine r_iadd h dL_law_2585 ?_
          obtain ⟨j626, hf⟩ := hf
          refine r_sld h hsc dL_law_2586 j626 ?_
          refine r_if_eq (tgt := 2594) h dL_law_2587 (by decide) (fun c627 => ?_) (fun c627 => ?_)
          · have hf := ite_t c627 hf
            refine r_iconst (v := 0) h dL_law_2594 (by decide) ?_
            exact V.sub [0, 1, 2, 3, 4] rfl hf
          · have hf := ite_f c627 hf
            refine r_iconst (v := 1) h dL_law_2590 (by decide) ?_
            refine r_goto (tgt := 2595) h dL_law_2591 (by decide) ?_
            exact V.sub [0, 1, 2, 3, 4] rfl hf
        have hf := ite_f c624 hf
        by_cases c628 : ((xs (ix v4)) &&& 63) = 39
        · have hf := ite_t c628 hf
          refine r_tableIn (off := 2618) (tgt := 2658) h dL_law_40 (by rw [c628]; decide) (by rw [c628]; decide) (by rw [c628]; rfl) (by decide) ?_
          refine r_aload_n h 1 dL_law_2658 rfl rfl ?_
          refine r_aload_n h 0 dL_law_2659 rfl rfl ?_
          refine r_iload h 4 dL_law_2660 rfl ?_
          refine r_iconst (v := 1) h dL_law_2662 (by decide) ?_
          refine r_iadd h dL_law_2663 ?_
          obtain ⟨j629, hf⟩ := hf
          refine r_sld h hsc dL_law_2664 j629 ?_
          refine r_aload_n h 0 dL_law_2665 rfl rfl ?_
          refine r_iload h 4 dL_law_2666 rfl ?_
          refine r_iconst (v := 2) h dL_law_2668 (by decide) ?_
          refine r_iadd h dL_law_2669 ?_
          obtain ⟨j630, hf⟩ := hf
          refine r_sld h hsc dL_law_2670 j630 ?_
          refine r_aload_n h 3 dL_law_2671 rfl rfl ?_
          obtain ⟨h631, h632, hf⟩ := hf
          refine c1554 hl h dL_law_2672 hf (Nat.le_of_ble_eq_true rfl) (by omega) (by omega) h631 h632 (fun x634 M633 hf => ?_)
          refine r_istore (lv' := [(5, .int x634), (0, .ref b), (1, .ref v1), (2, .ref v2), (3, .ref v3), (4, .int v4)]) h dL_law_2675 (by decide) rfl ?_
          refine r_aload_n h 3 dL_law_2677 rfl rfl ?_
          refine r_aload_n h 1 dL_law_2678 rfl rfl ?_
          refine r_iload h 5 dL_law_2679 rfl ?_
          refine r_iconst (v := 1) h dL_law_2681 (by decide) ?_
          refine r_iadd h dL_law_2682 ?_
          obtain ⟨j635, hf⟩ := hf
          refine r_sld h hsc dL_law_2683 j635 ?_
          refine r_aload_n h 1 dL_law_2684 rfl rfl ?_
          refine r_iload h 5 dL_law_2685 rfl ?_
          refine r_iconst (v := 2) h dL_law_2687 (by decide) ?_
          refine r_iadd h dL_law_2688 ?_
          obtain ⟨j636, hf⟩ := hf
          refine r_sld h hsc dL_law_2689 j636 ?_
          obtain ⟨k637, hf⟩ := hf
          refine c2256 hl h dL_law_2690 k637 hf (Nat.le_of_ble_eq_true rfl) (by omega) (by omega) (fun x639 M638 hf => ?_)
          refine r_istore (lv' := [(6, .int x639), (5, .int x634), (0, .ref b), (1, .ref v1), (2, .ref v2), (3, .ref v3), (4, .int v4)]) h dL_law_2693 (by decide) rfl ?_
          refine r_aload_n h 4 dL_law_2695 rfl rfl ?_
          obtain ⟨k640, hf⟩ := hf
          refine c1582 hl h dL_law_2696 k640 hf (Nat.le_of_ble_eq_true rfl) (by omega) (by omega) (fun x642 M641 hf => ?_)
          refine r_iload h 1 dL_law_2699 rfl ?_
          refine r_icmp_eq (tgt := 2706) h dL_law_2701 (by decide) (fun c643 => ?_) (fun c643 => ?_)
          · have hf := ite_t c643 hf
            refine r_iload h 1 dL_law_2706 rfl ?_
            refine r_if_ne (tgt := 2723) h dL_law_2708 (by decide) (fun c644 => ?_) (fun c644 => ?_)
            · have hf := ite_f c644 hf
              refine r_goto (tgt := 2980) h dL_law_2723 (by decide) ?_
              refine r_iinc (v := v4 + 6) (lv' := [(4, .int (v4 + 6)), (6, .int x639), (5, .int x634), (0, .ref b), (1, .ref v1), (2, .ref v2), (3, .ref v3)]) h 6 dL_law_2980 rfl rfl (by decide) rfl ?_
              refine r_goto (tgt := 23) h dL_law_2983 (by decide) ?_
              exact V.sub [3, 4, 5, 6, 0] rfl hf
            · have hf := ite_t c644 hf
              refine r_aload_n h 5 dL_law_2711 rfl rfl ?_
              refine r_iconst (v := 0) h dL_law_2712 (by decide) ?_
              obtain ⟨j645, hf⟩ := hf
              refine r_laload h dL_law_2713 j645 ?_
              refine r_iload h 0 dL_law_2714 rfl ?_
              refine r_i2l h dL_law_2716 ?_
              refine r_lcmp h dL_law_2717 ?_
              refine r_if_eq (tgt := 2723) h dL_law_2718 (by decide) (fun c646 => ?_) (fun c646 => ?_)
              · have hf := ite_t c646 hf
                refine r_goto (tgt := 2980) h dL_law_2723 (by decide) ?_
                refine r_iinc (v := v4 + 6) (lv' := [(4, .int (v4 + 6)), (6, .int x639), (5, .int x634), (0, .ref b), (1, .ref v1), (2, .ref v2), (3, .ref v3)]) h 6 dL_law_2980 rfl rfl (by decide) rfl ?_
                refine r_goto (tgt := 23) h dL_law_2983 (by decide) ?_
                exact V.sub [3, 4, 5, 6, 0] rfl hf
              · have hf := ite_f c646 hf
                refine r_iconst (v := 0) h dL_law_2721 (by decide) ?_
                exact hf.elim
          · have hf := ite_f c643 hf
            refine r_iconst (v := 0) h dL_law_2704 (by decide) ?_
            exact hf.elim
        have hf := ite_f c628 hf
        by_cases c647 : ((xs (ix v4)) &&& 63) = 40
        · have hf := ite_t c647 hf
          refine r_tableIn (off := 2686) (tgt := 2726) h dL_law_40 (by rw [c647]; decide) (by rw [c647]; decide) (by rw [c647]; rfl) (by decide) ?_
          refine r_aload_n h 1 dL_law_2726 rfl rfl ?_
          refine r_aload_n h 0 dL_law_2727 rfl rfl ?_
          refine r_iload h 4 dL_law_2728 rfl ?_
          refine r_iconst (v := 1) h dL_law_2730 (by decide) ?_
          refine r_iadd h dL_law_2731 ?_
          obtain ⟨j648, hf⟩ := hf
          refine r_sld h hsc dL_law_2732 j648 ?_
          refine r_aload_n h 0 dL_law_2733 rfl rfl ?_
          refine r_iload h 4 dL_law_2734 rfl ?_
          refine r_iconst (v := 2) h dL_law_2736 (by decide) ?_
          refine r_iadd h dL_law_2737 ?_
          obtain ⟨j649, hf⟩ := hf
          refine r_sld h hsc dL_law_2738 j649 ?_
          refine r_aload_n h 3 dL_law_2739 rfl rfl ?_
          obtain ⟨h650, h651, hf⟩ := hf
          refine c1561 hl h dL_law_2740 hf (Nat.le_of_ble_eq_true rfl) (by omega) (by omega) h650 h651 (fun x653 M652 hf => ?_)
          refine r_istore (lv' := [(5, .int x653), (0, .ref b), (1, .ref v1), (2, .ref v2), (3, .ref v3), (4, .int v4)]) h dL_law_2743 (by decide) rfl ?_
          refine r_aload_n h 3 dL_law_2745 rfl rfl ?_
          refine r_aload_n h 1 dL_law_2746 rfl rfl ?_
          refine r_iload h 5 dL_law_2747 rfl ?_
          refine r_iconst (v := 1) h dL_law_2749 (by decide) ?_
          refine r_iadd h dL_law_2750 ?_
          obtain ⟨j654, hf⟩ := hf
          refine r_sld h hsc dL_law_2751 j654 ?_
          refine r_aload_n h 1 dL_law_2752 rfl rfl ?_
          refine r_iload h 5 dL_law_2753 rfl ?_
          refine r_iconst (v := 2) h dL_law_2755 (by decide) ?_
          refine r_iadd h dL_law_2756 ?_
          obtain ⟨j655, hf⟩ := hf
          refine r_sld h hsc dL_law_2757 j655 ?_
          obtain ⟨k656, hf⟩ := hf
          refine c2260 hl h dL_law_2758 k656 hf (Nat.le_of_ble_eq_true rfl) (by omega) (by omega) (fun x658 M657 hf => ?_)
          refine r_istore (lv' := [(6, .int x658), (5, .int x653), (0, .ref b), (1, .ref v1), (2, .ref v2), (3, .ref v3), (4, .int v4)]) h dL_law_2761 (by decide) rfl ?_
          refine r_aload_n h 4 dL_law_2763 rfl rfl ?_
          obtain ⟨k659, hf⟩ := hf
          refine c1582 hl h dL_law_2764 k659 hf (Nat.le_of_ble_eq_true rfl) (by omega) (by omega) (fun x661 M660 hf => ?_)
          refine r_iload h 1 dL_law_2767 rfl ?_
          refine r_icmp_eq (tgt := 2774) h dL_law_2769 (by decide) (fun c662 => ?_) (fun c662 => ?_)
          · have hf := ite_t c662 hf
            refine r_iload h 1 dL_law_2774 rfl ?_
            refine r_if_ne (tgt := 2791) h dL_law_2776 (by decide) (fun c663 => ?_) (fun c663 => ?_)
            · have hf := ite_f c663 hf
              refine r_goto (tgt := 2980) h dL_law_2791 (by decide) ?_
              refine r_iinc (v := v4 + 6) (lv' := [(4, .int (v4 + 6)), (6, .int x658), (5, .int x653), (0, .ref b), (1, .ref v1), (2, .ref v2), (3, .ref v3)]) h 6 dL_law_2980 rfl rfl (by decide) rfl ?_
              refine r_goto (tgt := 23) h dL_law_2983 (by decide) ?_
              exact V.sub [3, 4, 5, 6, 0] rfl hf
            · have hf := ite_t c663 hf
              refine r_aload_n h 5 dL_law_2779 rfl rfl ?_
              refine r_iconst (v := 0) h dL_law_2780 (by decide) ?_
              obtain ⟨j664, hf⟩ := hf
              refine r_laload h dL_law_2781 j664 ?_
              refine r_iload h 0 dL_law_2782 rfl ?_
              refine r_i2l h dL_law_2784 ?_
              refine r_lcmp h dL_law_2785 ?_
              refine r_if_eq (tgt := 2791) h dL_law_2786 (by decide) (fun c665 => ?_) (fun c665 => ?_)
              · have hf := ite_t c665 hf
                refine r_goto (tgt := 2980) h dL_law_2791 (by decide) ?_
                refine r_iinc (v := v4 + 6) (lv' := [(4, .int (v4 + 6)), (6, .int x658), (5, .int x653), (0, .ref b), (1, .ref v1), (2, .ref v2), (3, .ref v3)]) h 6 dL_law_2980 rfl rfl (by decide) rfl ?_
                refine r_goto (tgt := 23) h dL_law_2983 (by decide) ?_
                exact V.sub [3, 4, 5, 6, 0] rfl hf
              · have hf := ite_f c665 hf
                refine r_iconst (v := 0) h dL_law_2789 (by decide) ?_
                exact hf.elim
          · have hf := ite_f c662 hf
            refine r_iconst (v := 0) h dL_law_2772 (by decide) ?_
            exact hf.elim
        have hf := ite_f c647 hf
        by_cases c666 : ((xs (ix v4)) &&& 63) = 41
        · have hf := ite_t c666 hf
          refine r_tableIn (off := 2754) (tgt := 2794) h dL_law_40 (by rw [c666]; decide) (by rw [c666]; decide) (by rw [c666]; rfl) (by decide) ?_
          refine r_aload_n h 1 dL_law_2794 rfl rfl ?_
          refine r_aload_n h 0 dL_law_2795 rfl rfl ?_
          refine r_iload h 4 dL_law_2796 rfl ?_
          refine r_iconst (v := 1) h dL_law_2798 (by decide) ?_
          refine r_iadd h dL_law_2799 ?_
          obtain ⟨j667, hf⟩ := hf
          refine r_sld h hsc dL_law_2800 j667 ?_
          refine r_aload_n h 3 dL_law_2801 rfl rfl ?_
          obtain ⟨h668, h669, hf⟩ := hf
          refine c1568 hl h dL_law_2802 hf (Nat.le_of_ble_eq_true rfl) (by omega) (by omega) h668 h669 (fun x671 M670 hf => ?_)
          refine r_istore (lv' := [(5, .int x671), (0, .ref b), (1, .ref v1), (2, .ref v2), (3, .ref v3), (4, .int v4)]) h dL_law_2805 (by decide) rfl ?_
          refine r_aload_n h 3 dL_law_2807 rfl rfl ?_
          refine r_aload_n h 1 dL_law_2808 rfl rfl ?_
          refine r_iload h 5 dL_law_2809 rfl ?_
          refine r_iconst (v := 1) h dL_law_2811 (by decide) ?_
          refine r_iadd h dL_law_2812 ?_
          obtain ⟨j672, hf⟩ := hf
          refine r_sld h hsc dL_law_2813 j672 ?_
          obtain ⟨k673, hf⟩ := hf
          refine c2264 hl h dL_law_2814 k673 hf (Nat.le_of_ble_eq_true rfl) (by omega) (by omega) (fun x675 M674 hf => ?_)
          refine r_istore (lv' := [(6, .int x675), (5, .int x671), (0, .ref b), (1, .ref v1), (2, .ref v2), (3, .ref v3), (4, .int v4)]) h dL_law_2817 (by decide) rfl ?_
          refine r_aload_n h 4 dL_law_2819 rfl rfl ?_
          obtain ⟨k676, hf⟩ := hf
          refine c1582 hl h dL_law_2820 k676 hf (Nat.le_of_ble_eq_true rfl) (by omega) (by omega) (fun x678 M677 hf => ?_)
          refine r_iload h 1 dL_law_2823 rfl ?_
          refine r_icmp_eq (tgt := 2830) h dL_law_2825 (by decide) (fun c679 => ?_) (fun c679 => ?_)
          · have hf := ite_t c679 hf
            refine r_iload h 1 dL_law_2830 rfl ?_
            refine r_if_ne (tgt := 2847) h dL_law_2832 (by decide) (fun c680 => ?_) (fun c680 => ?_)
            · have hf := ite_f c680 hf
              refine r_goto (tgt := 2980) h dL_law_2847 (by decide) ?_
              refine r_iinc (v := v4 + 6) (lv' := [(4, .int (v4 + 6)), (6, .int x675), (5, .int x671), (0, .ref b), (1, .ref v1), (2, .ref v2), (3, .ref v3)]) h 6 dL_law_2980 rfl rfl (by decide) rfl ?_
              refine r_goto (tgt := 23) h dL_law_2983 (by decide) ?_
              exact V.sub [3, 4, 5, 6, 0] rfl hf
            · have hf := ite_t c680 hf
              refine r_aload_n h 5 dL_law_2835 rfl rfl ?_
              refine r_iconst (v := 0) h dL_law_2836 (by decide) ?_
              obtain ⟨j681, hf⟩ := hf
              refine r_laload h dL_law_2837 j681 ?_
              refine r_iload h 0 dL_law_2838 rfl ?_
              refine r_i2l h dL_law_2840 ?_
              refine r_lcmp h dL_law_2841 ?_
              refine r_if_eq (tgt := 2847) h dL_law_2842 (by decide) (fun c682 => ?_) (fun c682 => ?_)
              · have hf := ite_t c682 hf
                refine r_goto (tgt := 2980) h dL_law_2847 (by decide) ?_
                refine r_iinc (v := v4 + 6) (lv' := [(4, .int (v4 + 6)), (6, .int x675), (5, .int x671), (0, .ref b), (1, .ref v1), (2, .ref v2), (3, .ref v3)]) h 6 dL_law_2980 rfl rfl (by decide) rfl ?_
                refine r_goto (tgt := 23) h dL_law_2983 (by decide) ?_
                exact V.sub [3, 4, 5, 6, 0] rfl hf
              · have hf := ite_f c682 hf
                refine r_iconst (v := 0) h dL_law_2845 (by decide) ?_
                exact hf.elim
          · have hf := ite_f c679 hf
            refine r_iconst (v := 0) h dL_law_2828 (by decide) ?_
            exact hf.elim
        have hf := ite_f c666 hf
        by_cases c683 : ((xs (ix v4)) &&& 63) = 42
        · have hf := ite_t c683 hf
          refine r_tableIn (off := 2810) (tgt := 2850) h dL_law_40 (by rw [c683]; decide) (by rw [c683]; decide) (by rw [c683]; rfl) (by decide) ?_
          refine r_aload_n h 1 dL_law_2850 rfl rfl ?_
          refine r_aload_n h 0 dL_law_2851 rfl rfl ?_
          refine r_iload h 4 dL_law_2852 rfl ?_
          refine r_iconst (v := 1) h dL_law_2854 (by decide) ?_
          refine r_iadd h dL_law_2855 ?_
          obtain ⟨j684, hf⟩ := hf
          refine r_sld h hsc dL_law_2856 j684 ?_
          refine r_aload_n h 0 dL_law_2857 rfl rfl ?_
          refine r_iload h 4 dL_law_2858 rfl ?_
          refine r_iconst (v := 2) h dL_law_2860 (by decide) ?_
          refine r_iadd h dL_law_2861 ?_
          obtain ⟨j685, hf⟩ := hf
          refine r_sld h hsc dL_law_2862 j685 ?_
          refine r_aload_n h 3 dL_law_2863 rfl rfl ?_
          obtain ⟨h686, h687, hf⟩ := hf
          refine c1575 hl h dL_law_2864 hf (Nat.le_of_ble_eq_true rfl) (by omega) (by omega) h686 h687 (fun x689 M688 hf => ?_)
          refine r_istore (lv' := [(5, .int x689), (0, .ref b), (1, .ref v1), (2, .ref v2), (3, .ref v3), (4, .int v4)]) h dL_law_2867 (by decide) rfl ?_
          refine r_aload_n h 3 dL_law_2869 rfl rfl ?_
          refine r_aload_n h 1 dL_law_2870 rfl rfl ?_
          refine r_iload h 5 dL_law_2871 rfl ?_
          refine r_iconst (v := 1) h dL_law_2873 (by decide) ?_
          refine r_iadd h dL_law_2874 ?_
          obtain ⟨j690, hf⟩ := hf
          refine r_sld h hsc dL_law_2875 j690 ?_
          refine r_aload_n h 1 dL_law_2876 rfl rfl ?_
          refine r_iload h 5 dL_law_2877 rfl ?_
          refine r_iconst (v := 2) h dL_law_2879 (by decide) ?_
          refine r_iadd h dL_law_2880 ?_
          obtain ⟨j691, hf⟩ := hf
          refine r_sld h hsc dL_law_2881 j691 ?_
          obtain ⟨k692, hf⟩ := hf
          refine c2268 hl h dL_law_2882 k692 hf (Nat.le_of_ble_eq_true rfl) (by omega) (by omega) (fun x694 M693 hf => ?_)
          refine r_istore (lv' := [(6, .int x694), (5, .int x689), (0, .ref b), (1, .ref v1), (2, .ref v2), (3, .ref v3), (4, .int v4)]) h dL_law_2885 (by decide) rfl ?_
          refine r_aload_n h 4 dL_law_2887 rfl rfl ?_
          obtain ⟨k695, hf⟩ := hf
          refine c1582 hl h dL_law_2888 k695 hf (Nat.le_of_ble_eq_true rfl) (by omega) (by omega) (fun x697 M696 hf => ?_)
          refine r_iload h 1 dL_law_2891 rfl ?_
          refine r_icmp_eq (tgt := 2898) h dL_law_2893 (by decide) (fun c698 => ?_) (fun c698 => ?_)
          · have hf := ite_t c698 hf
            refine r_iload h 1 dL_law_2898 rfl ?_
            refine r_if_ne (tgt := 2915) h dL_law_2900 (by decide) (fun c699 => ?_) (fun c699 => ?_)
            · have hf := ite_f c699 hf
              refine r_goto (tgt := 2980) h dL_law_2915 (by decide) ?_
              refine r_iinc (v := v4 + 6) (lv' := [(4, .int (v4 + 6)), (6, .int x694), (5, .int x689), (0, .ref b), (1, .ref v1), (2, .ref v2), (3, .ref v3)]) h 6 dL_law_2980 rfl rfl (by decide) rfl ?_
              refine r_goto (tgt := 23) h dL_law_2983 (by decide) ?_
              exact V.sub [3, 4, 5, 6, 0] rfl hf
            · have hf := ite_t c699 hf
              refine r_aload_n h 5 dL_law_2903 rfl rfl ?_
              refine r_iconst (v := 0) h dL_law_2904 (by decide) ?_
              obtain ⟨j700, hf⟩ := hf
              refine r_laload h dL_law_2905 j700 ?_
              refine r_iload h 0 dL_law_2906 rfl ?_
              refine r_i2l h dL_law_2908 ?_
              refine r_lcmp h dL_law_2909 ?_
              refine r_if_eq (tgt := 2915) h dL_law_2910 (by decide) (fun c701 => ?_) (fun c701 => ?_)
              · have hf := ite_t c701 hf
                refine r_goto (tgt := 2980) h dL_law_2915 (by decide) ?_
                refine r_iinc (v := v4 + 6) (lv' := [(4, .int (v4 + 6)), (6, .int x694), (5, .int x689), (0, .ref b), (1, .ref v1), (2, .ref v2), (3, .ref v3)]) h 6 dL_law_2980 rfl rfl (by decide) rfl ?_
                refine r_goto (tgt := 23) h dL_law_2983 (by decide) ?_
                exact V.sub [3, 4, 5, 6, 0] rfl hf
              · have hf := ite_f c701 hf
                refine r_iconst (v := 0) h dL_law_2913 (by decide) ?_
                exact hf.elim
          · have hf := ite_f c698 hf
            refine r_iconst (v := 0) h dL_law_2896 (by decide) ?_
            exact hf.elim
        have hf := ite_f c683 hf
        by_cases c702 : ((xs (ix v4)) &&& 63) = 43
        · have hf := ite_t c702 hf
          refine r_tableIn (off := 2878) (tgt := 2918) h dL_law_40 (by rw [c702]; decide) (by rw [c702]; decide) (by rw [c702]; rfl) (by decide) ?_
          refine r_aload_n h 1 dL_law_2918 rfl rfl ?_
          obtain ⟨k703, hf⟩ := hf
          refine c767 hl h dL_law_2919 k703 hf (Nat.le_of_ble_eq_true rfl) (by omega) (by omega) (fun x705 M704 hf => ?_)
          refine r_aload_n h 2 dL_law_2922 rfl rfl ?_
          obtain ⟨k706, hf⟩ := hf
          refine c1723 hl h dL_law_2923 k706 hf (Nat.le_of_ble_eq_true rfl) (by omega) (by omega) (fun x708 M707 hf => ?_)
          refine r_icmp_eq (tgt := 2980) h dL_law_2926 (by decide) (fun c709 => ?_) (fun c709 => ?_)
          · have hf := ite_t c709 hf
            refine r_iinc (v := v4 + 6) (lv' := [(4, .int (v4 + 6)), (0, .ref b), (1, .ref v1), (2, .ref v2), (3, .ref v3)]) h 4 dL_law_2980 rfl rfl (by decide) rfl ?_
            refine r_goto (tgt := 23) h dL_law_2983 (by decide) ?_
            exact V.sub [1, 2, 3, 4, 0] rfl hf
          · have hf := ite_f c709 hf
            refine r_iconst (v := 0) h dL_law_2929 (by decide) ?_
            exact hf.elim
        have hf := ite_f c702 hf
        by_cases c710 : ((xs (ix v4)) &&& 63) = 44
        · have hf := ite_t c710 hf
          refine r_tableIn (off := 2891) (tgt := 2931) h dL_law_40 (by rw [c710]; decide) (by rw [c710]; decide) (by rw [c710]; rfl) (by decide) ?_
          refine r_aload_n h 1 dL_law_2931 rfl rfl ?_
          obtain ⟨k711, hf⟩ := hf
          refine c795 hl h dL_law_2932 k711 hf (Nat.le_of_ble_eq_true rfl) (by omega) (by omega) (fun M712 hf => ?_)
          refine r_aload_n h 2 dL_law_2935 rfl rfl ?_
          obtain ⟨k713, hf⟩ := hf
          refine c1715 hl h dL_law_2936 k713 hf (Nat.le_of_ble_eq_true rfl) (by omega) (by omega) (fun M714 hf => ?_)
          refine r_goto (tgt := 2980) h dL_law_2939 (by decide) ?_
          refine r_iinc (v := v4 + 6) (lv' := [(4, .int (v4 + 6)), (0, .ref b), (1, .ref v1), (2, .ref v2), (3, .ref v3)]) h 4 dL_law_2980 rfl rfl (by decide) rfl ?_
          refine r_goto (tgt := 23) h dL_law_2983 (by decide) ?_
          exact V.sub [1, 2, 3, 4, 0] rfl hf
        have hf := ite_f c710 hf
        by_cases c715 : ((xs (ix v4)) &&& 63) = 45
        · have hf := ite_t c715 hf
          refine r_tableIn (off := 2902) (tgt := 2942) h dL_law_40 (by rw [c715]; decide) (by rw [c715]; decide) (by rw [c715]; rfl) (by decide) ?_
          refine r_aload_n h 1 dL_law_2942 rfl rfl ?_
          obtain ⟨k716, hf⟩ := hf
          refine c799 hl h dL_law_2943 k716 hf (Nat.le_of_ble_eq_true rfl) (by omega) (by omega) (fun x718 M717 hf => ?_)
          refine r_aload_n h 2 dL_law_2946 rfl rfl ?_
          obtain ⟨k719, hf⟩ := hf
          refine c1719 hl h dL_law_2947 k719 hf (Nat.le_of_ble_eq_true rfl) (by omega) (by omega) (fun x721 M720 hf => ?_)
          refine r_icmp_eq (tgt := 2980) h dL_law_2950 (by decide) (fun c722 => ?_) (fun c722 => ?_)
          · have hf := ite_t c722 hf
            refine r_iinc (v := v4 + 6) (lv' := [(4, .int (v4 + 6)), (0, .ref b), (1, .ref v1), (2, .ref v2), (3, .ref v3)]) h 4 dL_law_2980 rfl rfl (by decide) rfl ?_
            refine r_goto (tgt := 23) h dL_law_2983 (by decide) ?_
            exact V.sub [1, 2, 3, 4, 0] rfl hf
          · have hf := ite_f c722 hf
            refine r_iconst (v := 0) h dL_law_2953 (by decide) ?_
            exact hf.elim
        have hf := ite_f c715 hf
        by_cases c723 : ((xs (ix v4)) &&& 63) = 46
        · have hf := ite_t c723 hf
          refine r_tableIn (off := 2915) (tgt := 2955) h dL_law_40 (by rw [c723]; decide) (by rw [c723]; decide) (by rw [c723]; rfl) (by decide) ?_
          refine r_aload_n h 1 dL_law_2955 rfl rfl ?_
          refine r_aload_n h 0 dL_law_2956 rfl rfl ?_
          refine r_iload h 4 dL_law_2957 rfl ?_
          refine r_iconst (v := 1) h dL_law_2959 (by decide) ?_
          refine r_iadd h dL_law_2960 ?_
          obtain ⟨j724, hf⟩ := hf
          refine r_sld h hsc dL_law_2961 j724 ?_
          obtain ⟨k725, hf⟩ := hf
          refine c803 hl h dL_law_2962 k725 hf (Nat.le_of_ble_eq_true rfl) (by omega) (by omega) (fun x727 M726 hf => ?_)
          refine r_aload_n h 2 dL_law_2965 rfl rfl ?_
          refine r_aload_n h 0 dL_law_2966 rfl rfl ?_
          refine r_iload h 4 dL_law_2967 rfl ?_
          refine r_iconst (v := 1) h dL_law_2969 (by decide) ?_
          refine r_iadd h dL_law_2970 ?_
          obtain ⟨j728, hf⟩ := hf
          refine r_sld h hsc dL_law_2971 j728 ?_
          obtain ⟨k729, hf⟩ := hf
          refine c2272 hl h dL_law_2972 k729 hf (Nat.le_of_ble_eq_true rfl) (by omega) (by omega) (fun x731 M730 hf => ?_)
          refine r_icmp_eq (tgt := 2980) h dL_law_2975 (by decide) (fun c732 => ?_) (fun c732 => ?_)
          · have hf := ite_t c732 hf
            refine r_iinc (v := v4 + 6) (lv' := [(4, .int (v4 + 6)), (0, .ref b), (1, .ref v1), (2, .ref v2), (3, .ref v3)]) h 4 dL_law_2980 rfl rfl (by decide) rfl ?_
            refine r_goto (tgt := 23) h dL_law_2983 (by decide) ?_
            exact V.sub [1, 2, 3, 4, 0] rfl hf
          · have hf := ite_f c732 hf
            refine r_iconst (v := 0) h dL_law_2978 (by decide) ?_
            exact hf.elim
        have hf := ite_f c723 hf
        refine r_tableOut (tgt := 2980) h dL_law_40 (gSw0_47 c20 c38 c48 c63 c80 c88 c105 c124 c145 c164 c183 c202 c221 c240 c259 c276 c293 c316 c335 c354 c373 c390 c398 c401 c418 c439 c462 c481 c502 c510 c525 c530 c551 c570 c574 c578 c597 c614 c624 c628 c647 c666 c683 c702 c710 c715 c723) (by decide) ?_
        refine r_iinc (v := v4 + 6) (lv' := [(4, .int (v4 + 6)), (0, .ref b), (1, .ref v1), (2, .ref v2), (3, .ref v3)]) h 4 dL_law_2980 rfl rfl (by decide) rfl ?_
        refine r_goto (tgt := 23) h dL_law_2983 (by decide) ?_
        exact V.sub [1, 2, 3, 4, 0] rfl hf)
    (by
      intro v1 v2 v3 v4 s0 s1 bc bs M hf
      show V l G X bc bs M 1547 [(0, .ref b), (1, .ref v1), (2, .ref v2), (3, .ref v3), (4, .int v4)] [.int s0, .ref s1]
      obtain ⟨k733, hf⟩ := hf
      refine c744 hl h dL_law_1547 k733 hf (Nat.le_of_ble_eq_true rfl) (by omega) (by omega) (fun x735 M734 hf => ?_)
      refine r_aload_n h 2 dL_law_1550 rfl rfl ?_
      refine r_aload_n h 0 dL_law_1551 rfl rfl ?_
      refine r_iload h 4 dL_law_1552 rfl ?_
      refine r_iconst (v := 1) h dL_law_1554 (by decide) ?_
      refine r_iadd h dL_law_1555 ?_
      obtain ⟨j736, hf⟩ := hf
      refine r_sld h hsc dL_law_1556 j736 ?_
      refine r_if_eq (tgt := 1564) h dL_law_1557 (by decide) (fun c737 => ?_) (fun c737 => ?_)
      · have hf := ite_t c737 hf
        refine r_iconst (v := 0) h dL_law_1564 (by decide) ?_
        exact V.sub [0, 1, 2, 3, 4] rfl hf
      · have hf := ite_f c737 hf
        refine r_iconst (v := 1) h dL_law_1560 (by decide) ?_
        refine r_goto (tgt := 1565) h dL_law_1561 (by decide) ?_
        exact V.sub [0, 1, 2, 3, 4] rfl hf)
    (by
      intro v1 v2 v3 v4 s0 s1 s2 bc bs M hf
      show V l G X bc bs M 1565 [(0, .ref b), (1, .ref v1), (2, .ref v2), (3, .ref v3), (4, .int v4)] [.int s0, .ref s1, .int s2]
      obtain ⟨k738, hf⟩ := hf
      refine c2125 hl h dL_law_1565 k738 hf (Nat.le_of_ble_eq_true rfl) (by omega) (by omega) (fun x740 M739 hf => ?_)
      refine r_icmp_eq (tgt := 2980) h dL_law_1568 (by decide) (fun c741 => ?_) (fun c741 => ?_)
      · have hf := ite_t c741 hf
        refine r_iinc (v := v4 + 6) (lv' := [(4, .int (v4 + 6)), (0, .ref b), (1, .ref v1), (2, .ref v2), (3, .ref v3)]) h 4 dL_law_2980 rfl rfl (by decide) rfl ?_
        refine r_goto (tgt := 23) h dL_law_2983 (by decide) ?_
        exact V.sub [1, 2, 3, 4, 0] rfl hf
      · have hf := ite_f c741 hf
        refine r_iconst (v := 0) h dL_law_1571 (by decide) ?_
        exact hf.elim)
    (by
      intro v1 v2 v3 v4 s0 s1 bc bs M hf
      show V l G X bc bs M 1947 [(0, .ref b), (1, .ref v1), (2, .ref v2), (3, .ref v3), (4, .int v4)] [.long s0, .long s1]
      refine r_lcmp h dL_law_1947 ?_
      refine r_if_eq (tgt := 1953) h dL_law_1948 (by decide) (fun c742 => ?_) (fun c742 => ?_)
      · have hf := ite_t c742 hf
        refine r_goto (tgt := 2980) h dL_law_1953 (by decide) ?_
        refine r_iinc (v := v4 + 6) (lv' := [(4, .int (v4 + 6)), (0, .ref b), (1, .ref v1), (2, .ref v2), (3, .ref v3)]) h 4 dL_law_2980 rfl rfl (by decide) rfl ?_
        refine r_goto (tgt := 23) h dL_law_2983 (by decide) ?_
        exact V.sub [1, 2, 3, 4, 0] rfl hf
      · have hf := ite_f c742 hf
        refine r_iconst (v := 0) h dL_law_1951 (by decide) ?_
        exact hf.elim)
    (by
      intro v1 v2 v3 v4 s0 s1 s2 s3 bc bs M hf
      show V l G X bc bs M 2040 [(0, .ref b), (1, .ref v1), (2, .ref v2), (3, .ref v3), (4, .int v4)] [.int s0, .int s1, .int s2, .ref s3]
      refine r_aload_n h 3 dL_law_2040 rfl rfl ?_
      obtain ⟨h743, h744, hf⟩ := hf
      refine c1474 hl h dL_law_2041 hf (Nat.le_of_ble_eq_true rfl) (by omega) (by omega) h743 h744 (fun x746 M745 hf => ?_)
      refine r_istore (lv' := [(5, .int x746), (0, .ref b), (1, .ref v1), (2, .ref v2), (3, .ref v3), (4, .int v4)]) h dL_law_2044 (by decide) rfl ?_
      refine r_aload_n h 3 dL_law_2046 rfl rfl ?_
      refine r_aload_n h 1 dL_law_2047 rfl rfl ?_
      refine r_iload h 5 dL_law_2048 rfl ?_
      refine r_iconst (v := 1) h dL_law_2050 (by decide) ?_
      refine r_iadd h dL_law_2051 ?_
      obtain ⟨j747, hf⟩ := hf
      refine r_sld h hsc dL_law_2052 j747 ?_
      refine r_aload_n h 1 dL_law_2053 rfl rfl ?_
      refine r_iload h 5 dL_law_2054 rfl ?_
      refine r_iconst (v := 2) h dL_law_2056 (by decide) ?_
      refine r_iadd h dL_law_2057 ?_
      obtain ⟨j748, hf⟩ := hf
      refine r_sld h hsc dL_law_2058 j748 ?_
      refine r_aload_n h 1 dL_law_2059 rfl rfl ?_
      refine r_iload h 5 dL_law_2060 rfl ?_
      refine r_iconst (v := 3) h dL_law_2062 (by decide) ?_
      refine r_iadd h dL_law_2063 ?_
      obtain ⟨j749, hf⟩ := hf
      refine r_sld h hsc dL_law_2064 j749 ?_
      refine r_if_eq (tgt := 2072) h dL_law_2065 (by decide) (fun c750 => ?_) (fun c750 => ?_)
      · have hf := ite_t c750 hf
        refine r_iconst (v := 0) h dL_law_2072 (by decide) ?_
        exact V.sub [1, 2, 3, 4, 5, 0] rfl hf
      · have hf := ite_f c750 hf
        refine r_iconst (v := 1) h dL_law_2068 (by decide) ?_
        refine r_goto (tgt := 2073) h dL_law_2069 (by decide) ?_
        exact V.sub [1, 2, 3, 4, 5, 0] rfl hf)
    (by
      intro v1 v2 v3 v4 v5 s0 s1 s2 s3 bc bs M hf
      show V l G X bc bs M 2073 [(0, .ref b), (1, .ref v1), (2, .ref v2), (3, .ref v3), (4, .int v4), (5, .int v5)] [.int s0, .int s1, .int s2, .ref s3]
      obtain ⟨k751, hf⟩ := hf
      refine c2197 hl h dL_law_2073 k751 hf (Nat.le_of_ble_eq_true rfl) (by omega) (by omega) (fun x753 M752 hf => ?_)
      refine r_istore (lv' := [(6, .int x753), (0, .ref b), (1, .ref v1), (2, .ref v2), (3, .ref v3), (4, .int v4), (5, .int v5)]) h dL_law_2076 (by decide) rfl ?_
      refine r_aload_n h 3 dL_law_2078 rfl rfl ?_
      obtain ⟨k754, hf⟩ := hf
      refine c1582 hl h dL_law_2079 k754 hf (Nat.le_of_ble_eq_true rfl) (by omega) (by omega) (fun x756 M755 hf => ?_)
      refine r_iload h 6 dL_law_2082 rfl ?_
      refine r_icmp_eq (tgt := 2089) h dL_law_2084 (by decide) (fun c757 => ?_) (fun c757 => ?_)
      · have hf := ite_t c757 hf
        refine r_iload h 6 dL_law_2089 rfl ?_
        refine r_if_ne (tgt := 2106) h dL_law_2091 (by decide) (fun c758 => ?_) (fun c758 => ?_)
        · have hf := ite_f c758 hf
          refine r_goto (tgt := 2980) h dL_law_2106 (by decide) ?_
          refine r_iinc (v := v4 + 6) (lv' := [(4, .int (v4 + 6)), (6, .int x753), (0, .ref b), (1, .ref v1), (2, .ref v2), (3, .ref v3), (5, .int v5)]) h 5 dL_law_2980 rfl rfl (by decide) rfl ?_
          refine r_goto (tgt := 23) h dL_law_2983 (by decide) ?_
          exact V.sub [2, 3, 4, 5, 0] rfl hf
        · have hf := ite_t c758 hf
          refine r_aload_n h 4 dL_law_2094 rfl rfl ?_
          refine r_iconst (v := 0) h dL_law_2095 (by decide) ?_
          obtain ⟨j759, hf⟩ := hf
          refine r_laload h dL_law_2096 j759 ?_
          refine r_iload h 0 dL_law_2097 rfl ?_
          refine r_i2l h dL_law_2099 ?_
          refine r_lcmp h dL_law_2100 ?_
          refine r_if_eq (tgt := 2106) h dL_law_2101 (by decide) (fun c760 => ?_) (fun c760 => ?_)
          · have hf := ite_t c760 hf
            refine r_goto (tgt := 2980) h dL_law_2106 (by decide) ?_
            refine r_iinc (v := v4 + 6) (lv' := [(4, .int (v4 + 6)), (6, .int x753), (0, .ref b), (1, .ref v1), (2, .ref v2), (3, .ref v3), (5, .int v5)]) h 5 dL_law_2980 rfl rfl (by decide) rfl ?_
            refine r_goto (tgt := 23) h dL_law_2983 (by decide) ?_
            exact V.sub [2, 3, 4, 5, 0] rfl hf
          · have hf := ite_f c760 hf
            refine r_iconst (v := 0) h dL_law_2104 (by decide) ?_
            exact hf.elim
      · have hf := ite_f c757 hf
        refine r_iconst (v := 0) h dL_law_2087 (by decide) ?_
        exact hf.elim)
    (by
      intro v1 v2 v3 v4 s0 s1 s2 bc bs M hf
      show V l G X bc bs M 2278 [(0, .ref b), (1, .ref v1), (2, .ref v2), (3, .ref v3), (4, .int v4)] [.int s0, .int s1, .ref s2]
      refine r_aload_n h 3 dL_law_2278 rfl rfl ?_
      obtain ⟨h761, h762, hf⟩ := hf
      refine c1515 hl h dL_law_2279 hf (Nat.le_of_ble_eq_true rfl) (by omega) (by omega) h761 h762 (fun x764 M763 hf => ?_)
      refine r_istore (lv' := [(5, .int x764), (0, .ref b), (1, .ref v1), (2, .ref v2), (3, .ref v3), (4, .int v4)]) h dL_law_2282 (by decide) rfl ?_
      refine r_aload_n h 3 dL_law_2284 rfl rfl ?_
      refine r_aload_n h 1 dL_law_2285 rfl rfl ?_
      refine r_iload h 5 dL_law_2286 rfl ?_
      refine r_iconst (v := 1) h dL_law_2288 (by decide) ?_
      refine r_iadd h dL_law_2289 ?_
      obtain ⟨j765, hf⟩ := hf
      refine r_sld h hsc dL_law_2290 j765 ?_
      refine r_aload_n h 1 dL_law_2291 rfl rfl ?_
      refine r_iload h 5 dL_law_2292 rfl ?_
      refine r_iconst (v := 2) h dL_law_2294 (by decide) ?_
      refine r_iadd h dL_law_2295 ?_
      obtain ⟨j766, hf⟩ := hf
      refine r_sld h hsc dL_law_2296 j766 ?_
      refine r_if_eq (tgt := 2304) h dL_law_2297 (by decide) (fun c767 => ?_) (fun c767 => ?_)
      · have hf := ite_t c767 hf
        refine r_iconst (v := 0) h dL_law_2304 (by decide) ?_
        exact V.sub [1, 2, 3, 4, 5, 0] rfl hf
      · have hf := ite_f c767 hf
        refine r_iconst (v := 1) h dL_law_2300 (by decide) ?_
        refine r_goto (tgt := 2305) h dL_law_2301 (by decide) ?_
        exact V.sub [1, 2, 3, 4, 5, 0] rfl hf)
    (by
      intro v1 v2 v3 v4 v5 s0 s1 s2 bc bs M hf
      show V l G X bc bs M 2305 [(0, .ref b), (1, .ref v1), (2, .ref v2), (3, .ref v3), (4, .int v4), (5, .int v5)] [.int s0, .int s1, .ref s2]
      obtain ⟨k768, hf⟩ := hf
      refine c2228 hl h dL_law_2305 k768 hf (Nat.le_of_ble_eq_true rfl) (by omega) (by omega) (fun x770 M769 hf => ?_)
      refine r_istore (lv' := [(6, .int x770), (0, .ref b), (1, .ref v1), (2, .ref v2), (3, .ref v3), (4, .int v4), (5, .int v5)]) h dL_law_2308 (by decide) rfl ?_
      refine r_aload_n h 3 dL_law_2310 rfl rfl ?_
      obtain ⟨k771, hf⟩ := hf
      refine c1582 hl h dL_law_2311 k771 hf (Nat.le_of_ble_eq_true rfl) (by omega) (by omega) (fun x773 M772 hf => ?_)
      refine r_iload h 6 dL_law_2314 rfl ?_
      refine r_icmp_eq (tgt := 2321) h dL_law_2316 (by decide) (fun c774 => ?_) (fun c774 => ?_)
      · have hf := ite_t c774 hf
        refine r_iload h 6 dL_law_2321 rfl ?_
        refine r_if_ne (tgt := 2338) h dL_law_2323 (by decide) (fun c775 => ?_) (fun c775 => ?_)
        · have hf := ite_f c775 hf
          refine r_goto (tgt := 2980) h dL_law_2338 (by decide) ?_
          refine r_iinc (v := v4 + 6) (lv' := [(4, .int (v4 + 6)), (6, .int x770), (0, .ref b), (1, .ref v1), (2, .ref v2), (3, .ref v3), (5, .int v5)]) h 5 dL_law_2980 rfl rfl (by decide) rfl ?_
          refine r_goto (tgt := 23) h dL_law_2983 (by decide) ?_
          exact V.sub [2, 3, 4, 5, 0] rfl hf
        · have hf := ite_t c775 hf
          refine r_aload_n h 4 dL_law_2326 rfl rfl ?_
          refine r_iconst (v := 0) h dL_law_2327 (by decide) ?_
          obtain ⟨j776, hf⟩ := hf
          refine r_laload h dL_law_2328 j776 ?_
          refine r_iload h 0 dL_law_2329 rfl ?_
          refine r_i2l h dL_law_2331 ?_
          refine r_lcmp h dL_law_2332 ?_
          refine r_if_eq (tgt := 2338) h dL_law_2333 (by decide) (fun c777 => ?_) (fun c777 => ?_)
          · have hf := ite_t c777 hf
            refine r_goto (tgt := 2980) h dL_law_2338 (by decide) ?_
            refine r_iinc (v := v4 + 6) (lv' := [(4, .int (v4 + 6)), (6, .int x770), (0, .ref b), (1, .ref v1), (2, .ref v2), (3, .ref v3), (5, .int v5)]) h 5 dL_law_2980 rfl rfl (by decide) rfl ?_
            refine r_goto (tgt := 23) h dL_law_2983 (by decide) ?_
            exact V.sub [2, 3, 4, 5, 0] rfl hf
          · have hf := ite_f c777 hf
            refine r_iconst (v := 0) h dL_law_2336 (by decide) ?_
            exact hf.elim
      · have hf := ite_f c774 hf
        refine r_iconst (v := 0) h dL_law_2319 (by decide) ?_
        exact hf.elim)
    (by
      intro v1 v2 v3 v4 s0 s1 s2 bc bs M hf
      show V l G X bc bs M 2362 [(0, .ref b), (1, .ref v1), (2, .ref v2), (3, .ref v3), (4, .int v4)] [.int s0, .int s1, .ref s2]
      refine r_aload_n h 3 dL_law_2362 rfl rfl ?_
      obtain ⟨h778, h779, hf⟩ := hf
      refine c1526 hl h dL_law_2363 hf (Nat.le_of_ble_eq_true rfl) (by omega) (by omega) h778 h779 (fun x781 M780 hf => ?_)
      refine r_istore (lv' := [(5, .int x781), (0, .ref b), (1, .ref v1), (2, .ref v2), (3, .ref v3), (4, .int v4)]) h dL_law_2366 (by decide) rfl ?_
      refine r_aload_n h 3 dL_law_2368 rfl rfl ?_
      refine r_aload_n h 1 dL_law_2369 rfl rfl ?_
      refine r_iload h 5 dL_law_2370 rfl ?_
      refine r_iconst (v := 1) h dL_law_2372 (by decide) ?_
      refine r_iadd h dL_law_2373 ?_
      obtain ⟨j782, hf⟩ := hf
      refine r_sld h hsc dL_law_2374 j782 ?_
      refine r_aload_n h 1 dL_law_2375 rfl rfl ?_
      refine r_iload h 5 dL_law_2376 rfl ?_
      refine r_iconst (v := 2) h dL_law_2378 (by decide) ?_
      refine r_iadd h dL_law_2379 ?_
      obtain ⟨j783, hf⟩ := hf
      refine r_sld h hsc dL_law_2380 j783 ?_
      refine r_if_eq (tgt := 2388) h dL_law_2381 (by decide) (fun c784 => ?_) (fun c784 => ?_)
      · have hf := ite_t c784 hf
        refine r_iconst (v := 0) h dL_law_2388 (by decide) ?_
        exact V.sub [1, 2, 3, 4, 5, 0] rfl hf
      · have hf := ite_f c784 hf
        refine r_iconst (v := 1) h dL_law_2384 (by decide) ?_
        refine r_goto (tgt := 2389) h dL_law_2385 (by decide) ?_
        exact V.sub [1, 2, 3, 4, 5, 0] rfl hf)
    (by
      intro v1 v2 v3 v4 v5 s0 s1 s2 bc bs M hf
      show V l G X bc bs M 2389 [(0, .ref b), (1, .ref v1), (2, .ref v2), (3, .ref v3), (4, .int v4), (5, .int v5)] [.int s0, .int s1, .ref s2]
      obtain ⟨k785, hf⟩ := hf
      refine c2236 hl h dL_law_2389 k785 hf (Nat.le_of_ble_eq_true rfl) (by omega) (by omega) (fun x787 M786 hf => ?_)
      refine r_istore (lv' := [(6, .int x787), (0, .ref b), (1, .ref v1), (2, .ref v2), (3, .ref v3), (4, .int v4), (5, .int v5)]) h dL_law_2392 (by decide) rfl ?_
      refine r_aload_n h 3 dL_law_2394 rfl rfl ?_
      obtain ⟨k788, hf⟩ := hf
      refine c1582 hl h dL_law_2395 k788 hf (Nat.le_of_ble_eq_true rfl) (by omega) (by omega) (fun x790 M789 hf => ?_)
      refine r_iload h 6 dL_law_2398 rfl ?_
      refine r_icmp_eq (tgt := 2405) h dL_law_2400 (by decide) (fun c791 => ?_) (fun c791 => ?_)
      · have hf := ite_t c791 hf
        refine r_iload h 6 dL_law_2405 rfl ?_
        refine r_if_ne (tgt := 2422) h dL_law_2407 (by decide) (fun c792 => ?_) (fun c792 => ?_)
        · have hf := ite_f c792 hf
          refine r_goto (tgt := 2980) h dL_law_2422 (by decide) ?_
          refine r_iinc (v := v4 + 6) (lv' := [(4, .int (v4 + 6)), (6, .int x787), (0, .ref b), (1, .ref v1), (2, .ref v2), (3, .ref v3), (5, .int v5)]) h 5 dL_law_2980 rfl rfl (by decide) rfl ?_
          refine r_goto (tgt := 23) h dL_law_2983 (by decide) ?_
          exact V.sub [2, 3, 4, 5, 0] rfl hf
        · have hf := ite_t c792 hf
          refine r_aload_n h 4 dL_law_2410 rfl rfl ?_
          refine r_iconst (v := 0) h dL_law_2411 (by decide) ?_
          obtain ⟨j793, hf⟩ := hf
          refine r_laload h dL_law_2412 j793 ?_
          refine r_iload h 0 dL_law_2413 rfl ?_
          refine r_i2l h dL_law_2415 ?_
          refine r_lcmp h dL_law_2416 ?_
          refine r_if_eq (tgt := 2422) h dL_law_2417 (by decide) (fun c794 => ?_) (fun c794 => ?_)
          · have hf := ite_t c794 hf
            refine r_goto (tgt := 2980) h dL_law_2422 (by decide) ?_
            refine r_iinc (v := v4 + 6) (lv' := [(4, .int (v4 + 6)), (6, .int x787), (0, .ref b), (1, .ref v1), (2, .ref v2), (3, .ref v3), (5, .int v5)]) h 5 dL_law_2980 rfl rfl (by decide) rfl ?_
            refine r_goto (tgt := 23) h dL_law_2983 (by decide) ?_
            exact V.sub [2, 3, 4, 5, 0] rfl hf
          · have hf := ite_f c794 hf
            refine r_iconst (v := 0) h dL_law_2420 (by decide) ?_
            exact hf.elim
      · have hf := ite_f c791 hf
        refine r_iconst (v := 0) h dL_law_2403 (by decide) ?_
        exact hf.elim)
    (by
      intro v1 v2 v3 v4 s0 s1 s2 bc bs M hf
      show V l G X bc bs M 2595 [(0, .ref b), (1, .ref v1), (2, .ref v2), (3, .ref v3), (4, .int v4)] [.int s0, .int s1, .ref s2]
      refine r_aload_n h 3 dL_law_2595 rfl rfl ?_
      obtain ⟨h795, h796, hf⟩ := hf
      refine c1547 hl h dL_law_2596 hf (Nat.le_of_ble_eq_true rfl) (by omega) (by omega) h795 h796 (fun x798 M797 hf => ?_)
      refine r_istore (lv' := [(5, .int x798), (0, .ref b), (1, .ref v1), (2, .ref v2), (3, .ref v3), (4, .int v4)]) h dL_law_2599 (by decide) rfl ?_
      refine r_aload_n h 3 dL_law_2601 rfl rfl ?_
      refine r_aload_n h 1 dL_law_2602 rfl rfl ?_
      refine r_iload h 5 dL_law_2603 rfl ?_
      refine r_iconst (v := 1) h dL_law_2605 (by decide) ?_
      refine r_iadd h dL_law_2606 ?_
      obtain ⟨j799, hf⟩ := hf
      refine r_sld h hsc dL_law_2607 j799 ?_
      refine r_aload_n h 1 dL_law_2608 rfl rfl ?_
      refine r_iload h 5 dL_law_2609 rfl ?_
      refine r_iconst (v := 2) h dL_law_2611 (by decide) ?_
      refine r_iadd h dL_law_2612 ?_
      obtain ⟨j800, hf⟩ := hf
      refine r_sld h hsc dL_law_2613 j800 ?_
      refine r_if_eq (tgt := 2621) h dL_law_2614 (by decide) (fun c801 => ?_) (fun c801 => ?_)
      · have hf := ite_t c801 hf
        refine r_iconst (v := 0) h dL_law_2621 (by decide) ?_
        exact V.sub [1, 2, 3, 4, 5, 0] rfl hf
      · have hf := ite_f c801 hf
        refine r_iconst (v := 1) h dL_law_2617 (by decide) ?_
        refine r_goto (tgt := 2622) h dL_law_2618 (by decide) ?_
        exact V.sub [1, 2, 3, 4, 5, 0] rfl hf)
    (by
      intro v1 v2 v3 v4 v5 s0 s1 s2 bc bs M hf
      show V l G X bc bs M 2622 [(0, .ref b), (1, .ref v1), (2, .ref v2), (3, .ref v3), (4, .int v4), (5, .int v5)] [.int s0, .int s1, .ref s2]
      obtain ⟨k802, hf⟩ := hf
      refine c2252 hl h dL_law_2622 k802 hf (Nat.le_of_ble_eq_true rfl) (by omega) (by omega) (fun x804 M803 hf => ?_)
      refine r_istore (lv' := [(6, .int x804), (0, .ref b), (1, .ref v1), (2, .ref v2), (3, .ref v3), (4, .int v4), (5, .int v5)]) h dL_law_2625 (by decide) rfl ?_
      refine r_aload_n h 3 dL_law_2627 rfl rfl ?_
      obtain ⟨k805, hf⟩ := hf
      refine c1582 hl h dL_law_2628 k805 hf (Nat.le_of_ble_eq_true rfl) (by omega) (by omega) (fun x807 M806 hf => ?_)
      refine r_iload h 6 dL_law_2631 rfl ?_
      refine r_icmp_eq (tgt := 2638) h dL_law_2633 (by decide) (fun c808 => ?_) (fun c808 => ?_)
      · have hf := ite_t c808 hf
        refine r_iload h 6 dL_law_2638 rfl ?_
        refine r_if_ne (tgt := 2655) h dL_law_2640 (by decide) (fun c809 => ?_) (fun c809 => ?_)
        · have hf := ite_f c809 hf
          refine r_goto (tgt := 2980) h dL_law_2655 (by decide) ?_
          refine r_iinc (v := v4 + 6) (lv' := [(4, .int (v4 + 6)), (6, .int x804), (0, .ref b), (1, .ref v1), (2, .ref v2), (3, .ref v3), (5, .int v5)]) h 5 dL_law_2980 rfl rfl (by decide) rfl ?_
          refine r_goto (tgt := 23) h dL_law_2983 (by decide) ?_
          exact V.sub [2, 3, 4, 5, 0] rfl hf
        · have hf := ite_t c809 hf
          refine r_aload_n h 4 dL_law_2643 rfl rfl ?_
          refine r_iconst (v := 0) h dL_law_2644 (by decide) ?_
          obtain ⟨j810, hf⟩ := hf
          refine r_laload h dL_law_2645 j810 ?_
          refine r_iload h 0 dL_law_2646 rfl ?_
          refine r_i2l h dL_law_2648 ?_
          refine r_lcmp h dL_law_2649 ?_
          refine r_if_eq (tgt := 2655) h dL_law_2650 (by decide) (fun c811 => ?_) (fun c811 => ?_)
          · have hf := ite_t c811 hf
            refine r_goto (tgt := 2980) h dL_law_2655 (by decide) ?_
            refine r_iinc (v := v4 + 6) (lv' := [(4, .int (v4 + 6)), (6, .int x804), (0, .ref b), (1, .ref v1), (2, .ref v2), (3, .ref v3), (5, .int v5)]) h 5 dL_law_2980 rfl rfl (by decide) rfl ?_
            refine r_goto (tgt := 23) h dL_law_2983 (by decide) ?_
            exact V.sub [2, 3, 4, 5, 0] rfl hf
          · have hf := ite_f c811 hf
            refine r_iconst (v := 0) h dL_law_2653 (by decide) ?_
            exact hf.elim
      · have hf := ite_f c808 hf
        refine r_iconst (v := 0) h dL_law_2636 (by decide) ?_
        exact hf.elim)
  obtain ⟨h1, h2, hf⟩ := hf
  refine n169 h dL_law_0 h1 h2 ?_
  refine r_goW (fun M3 eM3 => ?_)
  have hf := hf M3 eM3
  refine r_dup h dL_law_3 rfl ?_
  obtain ⟨c4, z5, h6, h7, hf⟩ := hf
  refine c171 hl h dL_law_4 hf (Nat.le_of_ble_eq_true rfl) (by omega) (by omega) h6 h7 (fun M8 hf => ?_)
  refine r_astore_n (lv' := [(1, .ref (sz M)), (0, .ref b)]) h dL_law_7 rfl (by decide) rfl ?_
  obtain ⟨h9, h10, hf⟩ := hf
  refine n1586 h dL_law_8 h9 h10 ?_
  refine r_goW (fun M11 eM11 => ?_)
  have hf := hf M11 eM11
  refine r_dup h dL_law_11 rfl ?_
  obtain ⟨h12, h13, hf⟩ := hf
  refine c1588 hl h dL_law_12 hf (Nat.le_of_ble_eq_true rfl) (by omega) (by omega) h12 h13 (fun M14 hf => ?_)
  refine r_astore_n (lv' := [(2, .ref (sz M8)), (1, .ref (sz M)), (0, .ref b)]) h dL_law_15 rfl (by decide) rfl ?_
  refine r_iconst (v := 1) h dL_law_16 (by decide) ?_
  obtain ⟨h15, h16, hf⟩ := hf
  refine r_newarray h 2 (by decide) rfl q2276 (N := 1) dL_law_17 (by decide) (by decide) (by decide) h15 h16 ?_
  refine r_goW (fun M17 eM17 => ?_)
  have hf := hf M17 eM17
  refine r_astore_n (lv' := [(3, .ref (sz M14)), (2, .ref (sz M8)), (1, .ref (sz M)), (0, .ref b)]) h dL_law_19 rfl (by decide) rfl ?_
  refine r_iconst (v := 0) h dL_law_20 (by decide) ?_
  refine r_istore (lv' := [(4, .int 0), (3, .ref (sz M14)), (2, .ref (sz M8)), (1, .ref (sz M)), (0, .ref b)]) h dL_law_21 (by decide) rfl ?_
  exact V.sub [4, 3, 2, 1, 0] rfl hf
